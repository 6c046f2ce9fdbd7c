section
/-! pk_ rows: taken from the kit's PURE-ROWS to paste -/
theorem pk_us {f : Nat → Int32} {k : Nat} {x : Int32} : upd f k x k = x := if_pos rfl
theorem pk_un {f : Nat → Int32} {k j : Nat} {x : Int32} (h : j ≠ k) : upd f k x j = f j := if_neg h
theorem pk_sub {a b : Nat} (h : b ≤ a) : nI a - nI b = nI (a - b) := by
  obtain ⟨c, rfl⟩ : ∃ c, a = c + b := ⟨a - b, by omega⟩
  rw [← nI_add, Int32.add_sub_cancel, Nat.add_sub_cancel]
theorem pk_ix (x : Int32) {n : Nat} (hn : n < 2 ^ 31) : x < 0 ∨ nI n ≤ x ∨ ∃ j : Nat, j < n ∧ x = nI j := by
  by_cases h : x < 0
  · exact Or.inl h
  · obtain ⟨j, hj, rfl⟩ := nI_of h
    by_cases h2 : j < n
    · exact Or.inr (Or.inr ⟨j, h2, rfl⟩)
    · exact Or.inr (Or.inl (nI_le (by omega) hj))
theorem pk_tn {n : Nat} (h : n < 2 ^ 32) : (nI n).toBitVec.toNat = n := Nat.mod_eq_of_lt h
theorem pk_and (x : Int32) {m : Int32} (k : Nat) (hm : m.toBitVec.toNat = 2 ^ k - 1) : x &&& m = nI (x.toBitVec.toNat % 2 ^ k) := by
  apply Int32.toBitVec_inj.mp
  apply BitVec.eq_of_toNat_eq
  rw [Int32.toBitVec_and, BitVec.toNat_and, hm, Nat.and_two_pow_sub_one_eq_mod]
  show _ = (BitVec.ofNat 32 _).toNat
  rw [BitVec.toNat_ofNat]
  exact (Nat.mod_eq_of_lt (Nat.lt_of_le_of_lt (Nat.mod_le _ _) x.toBitVec.isLt)).symm
theorem pk_andN {n : Nat} (h : n < 2 ^ 32) {m : Int32} (k : Nat) (hm : m.toBitVec.toNat = 2 ^ k - 1) : nI n &&& m = nI (n % 2 ^ k) := by
  rw [pk_and _ k hm, pk_tn h]
theorem pk_andE (x : Int32) {m : Int32} (k : Nat) (hm : m.toBitVec.toNat = 2 ^ k - 1) : ∃ j : Nat, j < 2 ^ k ∧ x &&& m = nI j := ⟨_, Nat.mod_lt _ (Nat.two_pow_pos k), pk_and x k hm⟩
/-! the pure picture -/
/-- the last index below s that holds the name x, or -1 -/
def se_f (na : Nat → Int32) (x : Int32) : Nat → Int32
  | 0 => -1
  | s + 1 => if na s = x then nI s else se_f na x s
theorem se_ft {na : Nat → Int32} {x : Int32} {s : Nat} (h : na s = x) : se_f na x (s + 1) = nI s := by
  rw [se_f, if_pos h]
theorem se_fn {na : Nat → Int32} {x : Int32} {s : Nat} (h : ¬ na s = x) : se_f na x (s + 1) = se_f na x s := by
  rw [se_f, if_neg h]
theorem se_c {na nb : Nat → Int32} (x : Int32) : ∀ s : Nat, (∀ j, j < s → na j = nb j) → se_f na x s = se_f nb x s := by
  intro s
  induction s with
  | zero => intro _; rfl
  | succ s ih =>
    intro h
    have e := h s (Nat.lt_succ_self s)
    have i := ih (fun j hj => h j (Nat.lt_succ_of_lt hj))
    by_cases c : nb s = x
    · rw [se_ft c, se_ft (e.trans c)]
    · rw [se_fn c, se_fn (fun z => c (e.symm.trans z)), i]
theorem se_r (na : Nat → Int32) (x : Int32) : ∀ s : Nat, se_f na x s = -1 ∨ ∃ j, j < s ∧ se_f na x s = nI j := by
  intro s
  induction s with
  | zero => exact Or.inl rfl
  | succ s ih =>
    by_cases c : na s = x
    · exact Or.inr ⟨s, Nat.lt_succ_self s, se_ft c⟩
    · rw [se_fn c]
      rcases ih with h | ⟨j, hj, e⟩
      · exact Or.inl h
      · exact Or.inr ⟨j, Nat.lt_succ_of_lt hj, e⟩
theorem se_n16 {n : Nat} (h : n < 32768) : (nI n).toInt16.toInt32 = nI n := by
  have e := nI_toInt (n := n) (by omega)
  exact lg_i2s_small (by rw [e]; omega) (by rw [e]; omega)
theorem se_m16 : (-1 : Int32).toInt16.toInt32 = -1 := by decide
theorem se_sn {n : Nat} (h : n < 32768) : vp_nar .short (nI n) = nI n := by rw [vp_nar_short, se_n16 h]
theorem se_sn2 {n : Nat} (h : n < 32768) : vp_nar .short (nI n).toInt16.toInt32 = nI n := by rw [se_n16 h, se_sn h]
theorem se_sm : vp_nar .short (-1) = -1 := by rw [vp_nar_short, se_m16]
theorem se_s0 : vp_nar .short 0 = 0 := by rw [vp_nar_short]; decide
theorem se_f16 (na : Nat → Int32) (x : Int32) {s : Nat} (hs : s ≤ 6) : (se_f na x s).toInt16.toInt32 = se_f na x s := by
  rcases se_r na x s with h | ⟨j, hj, h⟩
  · rw [h]; exact se_m16
  · rw [h]; exact se_n16 (by omega)
theorem se_fs (na : Nat → Int32) (x : Int32) {s : Nat} (hs : s ≤ 6) : vp_nar .short (se_f na x s) = se_f na x s := by
  rw [vp_nar_short, se_f16 na x hs]
theorem se_fs2 (na : Nat → Int32) (x : Int32) {s : Nat} (hs : s ≤ 6) : vp_nar .short (se_f na x s).toInt16.toInt32 = se_f na x s := by
  rw [se_f16 na x hs, se_fs na x hs]
/-- what declare stores as the type -/
def se_t (t : Int32) : Int32 := vp_nar .short ((t &&& 32767).toInt16.toInt32)
theorem se_ty (t : Int32) : se_t t &&& 32767 = se_t t := by
  obtain ⟨j, hj, e⟩ := pk_andE t (m := 32767) 15 (by decide)
  have e2 : se_t t = nI j := by
    show vp_nar .short ((t &&& 32767).toInt16.toInt32) = nI j
    rw [e, se_sn2 (by omega)]
  rw [e2, pk_andN (m := 32767) (by omega) 15 (by decide), Nat.mod_eq_of_lt hj]
/-! the invariant -/
/-- every name's head is its last entry below s -/
def se_H (hd na : Nat → Int32) (s : Nat) : Prop := ∀ n, n < 4 → hd n = se_f na (nI n) s
/-- every entry below s: its name is a name, its prev is the last entry of that name below it, its type is a 15-bit number -/
def se_G (na pr ty : Nat → Int32) (s : Nat) : Prop := ∀ e, e < s → (∃ n, n < 4 ∧ na e = nI n) ∧ pr e = se_f na (na e) e ∧ ty e &&& 32767 = ty e
/-- the marks up to the depth are numbers that do not fall, the last at most s -/
def se_M (M : Nat → Nat) (mk : Nat → Int32) (d s : Nat) : Prop := (∀ i, i ≤ d → mk i = nI (M i)) ∧ (∀ i, i < d → M i ≤ M (i + 1)) ∧ M d ≤ s
theorem se_pop {hd na pr ty : Nat → Int32} {s n : Nat} (hH : se_H hd na (s + 1)) (hG : se_G na pr ty (s + 1)) (hn : n < 4) (e : na s = nI n) : se_H (upd hd n (pr s)) na s := by
  intro j hj
  by_cases c : j = n
  · subst c
    rw [pk_us, (hG s (Nat.lt_succ_self s)).2.1, e]
  · rw [pk_un c, hH j hj]
    refine se_fn fun z => c ?_
    rw [e] at z
    exact ((nI_eq (by omega) (by omega)).mp z).symm
theorem se_pushH {hd na : Nat → Int32} {s n : Nat} (hH : se_H hd na s) (hn : n < 4) : se_H (upd hd n (nI s)) (upd na s (nI n)) (s + 1) := by
  intro j hj
  by_cases c : j = n
  · subst c
    rw [pk_us, se_ft pk_us]
  · rw [pk_un c, hH j hj, se_fn]
    · exact (se_c _ s fun i hi => pk_un (by omega)).symm
    · intro z
      rw [pk_us] at z
      exact c ((nI_eq (by omega) (by omega)).mp z).symm
theorem se_pushG {na pr ty : Nat → Int32} {s n : Nat} {t : Int32} (hG : se_G na pr ty s) (hn : n < 4) (ht : t &&& 32767 = t) : se_G (upd na s (nI n)) (upd pr s (se_f na (nI n) s)) (upd ty s t) (s + 1) := by
  intro e he
  by_cases c : e = s
  · subst c
    refine ⟨⟨n, hn, pk_us⟩, ?_, ?_⟩
    · rw [pk_us, pk_us]
      exact (se_c _ e fun i hi => pk_un (by omega)).symm
    · rw [pk_us]; exact ht
  · obtain ⟨⟨m, hm, em⟩, ep, et⟩ := hG e (by omega)
    refine ⟨⟨m, hm, by rw [pk_un c]; exact em⟩, ?_, ?_⟩
    · rw [pk_un c, pk_un c, ep]
      exact (se_c _ e fun i hi => pk_un (by omega)).symm
    · rw [pk_un c]; exact et
theorem se_Gm {na pr ty : Nat → Int32} {s m : Nat} (h : m ≤ s) (hG : se_G na pr ty s) : se_G na pr ty m := fun e he => hG e (by omega)
theorem se_Mpush {M : Nat → Nat} {mk : Nat → Int32} {d s : Nat} (h : se_M M mk d s) : se_M (fun i => if i = d + 1 then s else M i) (upd mk (d + 1) (nI s)) (d + 1) s := by
  refine ⟨fun i hi => ?_, fun i hi => ?_, ?_⟩
  · show upd mk (d + 1) (nI s) i = nI (if i = d + 1 then s else M i)
    by_cases c : i = d + 1
    · rw [if_pos c, c, pk_us]
    · rw [if_neg c, pk_un c]; exact h.1 i (by omega)
  · show (if i = d + 1 then s else M i) ≤ (if i + 1 = d + 1 then s else M (i + 1))
    have c : ¬ i = d + 1 := by omega
    rw [if_neg c]
    by_cases c2 : i = d
    · rw [if_pos (by omega), c2]; exact h.2.2
    · rw [if_neg (by omega)]; exact h.2.1 i (by omega)
  · show (if d + 1 = d + 1 then s else M (d + 1)) ≤ s
    rw [if_pos rfl]; exact Nat.le_refl s
theorem se_Mpop {M : Nat → Nat} {mk : Nat → Int32} {d s : Nat} (h : se_M M mk (d + 1) s) : se_M M mk d (M (d + 1)) :=
  ⟨fun i hi => h.1 i (by omega), fun i hi => h.2.1 i (by omega), h.2.1 d (by omega)⟩
theorem se_Mup {M : Nat → Nat} {mk : Nat → Int32} {d s : Nat} (h : se_M M mk d s) : se_M M mk d (s + 1) :=
  ⟨h.1, h.2.1, Nat.le_succ_of_le h.2.2⟩
end
section
/-- the two tables are equal in what both keep; the component's heads and links name the last entry of their name -/
def i_Rel (_ : Nat) (u : SX) (v : SY) : Prop :=
  ∃ (s d : Nat) (M : Nat → Nat) (hd ty pr na mk : Nat → Int32), u = (nI s, nI d, hd, ty, pr, na, mk) ∧ v = (nI s, nI d, na, ty, mk) ∧ s ≤ 6 ∧ d ≤ 3 ∧ se_M M mk d s ∧ se_G na pr ty s ∧ se_H hd na s
theorem i_up {k : Nat} {u : SX} {v : SY} (h : i_Rel k u v) : i_Rel (k + 3) u v := h
theorem se_init {post : SX → Prop} {fs fd : Int32} {ty pr na mk : Nat → Int32} (hp : ∀ hd : Nat → Int32, (∀ j, j < 4 → hd j = -1) → post (0, 0, hd, ty, pr, na, upd mk 0 (vp_nar .short 0))) : ∀ (k i : Nat) (hd : Nat → Int32), i + k = 4 → (∀ j, j < i → hd j = -1) → wX_init_44 post fs fd (k + 1) (nI i) hd ty pr na mk := by
  intro k
  induction k with
  | zero =>
    intro i hd hi hh
    have h : (4 : Int32) ≤ nI i := nI_le (a := 4) (by omega) (by omega)
    exact br_t h (nm_e (hp hd fun j hj => hh j (by omega)))
  | succ k ih =>
    intro i hd hi hh
    have h : ¬ (4 : Int32) ≤ nI i := nI_ge (b := 4) (by omega) (by omega)
    refine br_f h ⟨vp_in_nI (by omega) (by omega), nm_r (e' := upd hd i (-1)) (by rw [nI_clamp (by omega), se_sm]) (nm_r (e' := nI (i + 1)) (nI_1 i) (ih (i + 1) _ (by omega) fun j hj => ?_))⟩
    by_cases c : j = i
    · rw [c, pk_us]
    · rw [pk_un c]; exact hh j (by omega)
theorem i_vc0 : wpX_init (fun u => wpY_init (fun v => i_Rel 0 u v)) := by
  refine ⟨5, ?_⟩
  have H := se_init (post := fun u => wpY_init (fun v => i_Rel 0 u v)) (fs := 0) (fd := 0) (ty := fun _ => 0) (pr := fun _ => 0) (na := fun _ => 0) (mk := fun _ => 0) ?_ 4 0 (fun _ => 0) rfl (fun j hj => absurd hj (Nat.not_lt_zero j))
  · exact H
  · intro hd hh
    show i_Rel 0 _ _
    have em : upd (fun _ => 0) 0 (vp_nar .short 0) = (fun _ => (0 : Int32)) := by
      funext j
      rw [se_s0]
      show (if j = 0 then (0 : Int32) else 0) = 0
      exact ite_self _
    rw [em]
    exact ⟨0, 0, fun _ => 0, hd, fun _ => 0, fun _ => 0, fun _ => 0, fun _ => 0, rfl, rfl, by omega, by omega, ⟨fun i hi => rfl, fun i hi => Nat.le_refl 0, Nat.le_refl 0⟩, fun e he => absurd he (Nat.not_lt_zero e), fun n hn => hh n hn⟩
/-! the reference's find -/
theorem se_find {post : Int32 → Prop} {x fs fd : Int32} {na ty mk : Nat → Int32} : ∀ s n : Nat, s ≤ 6 → s < n → post (se_f na x s) → wY_find_7 post x fs fd na ty mk n (nI s - 1) := by
  intro s
  induction s with
  | zero =>
    intro n hs hn hp
    obtain ⟨m, rfl⟩ : ∃ m, n = m + 1 := ⟨n - 1, by omega⟩
    have e : nI 0 - 1 = -1 := by decide
    rw [e]
    exact br_t (by decide) hp
  | succ s ih =>
    intro n hs hn hp
    obtain ⟨m, rfl⟩ : ∃ m, n = m + 1 := ⟨n - 1, by omega⟩
    have ec : (nI s).toNatClampNeg = s := nI_clamp (by omega)
    rw [nI_pred]
    refine br_f (nI_pos (by omega)) ⟨vp_in_nI (by omega) (by omega), ?_⟩
    by_cases c : na s = x
    · rw [se_ft c] at hp
      exact br_t (by rw [ec]; exact c) hp
    · rw [se_fn c] at hp
      refine br_f (by rw [ec]; exact c) (nm_r (e' := nI s - 1) ?_ (ih m (by omega) (by omega) hp))
      exact (Int32.sub_eq_add_neg _ _).symm
theorem se_wf {post : Int32 → Prop} {x fd : Int32} {na ty mk : Nat → Int32} {s : Nat} (hs : s ≤ 6) (hp : post (se_f na x s)) : wpY_find post (nI s, fd, na, ty, mk) x :=
  nm_e ⟨7, se_find s 7 hs (by omega) hp⟩
/-! the reference's declare, three ends -/
section
variable {post : Int32 → SY → Prop} {t : Int32} {na ty mk : Nat → Int32} {s d n m : Nat}
theorem se_Yd1 (hn : n < 4) (hs : s ≤ 6) (hd : d ≤ 3) (em : mk d = nI m) (hr : ¬ se_f na (nI n) s < nI m) (hp : post (-1) (nI s, nI d, na, ty, mk)) : wpY_declare post (nI s, nI d, na, ty, mk) (nI n) t := by
  have ed : (nI d).toNatClampNeg = d := nI_clamp (by omega)
  unfold wpY_declare
  refine br_f (nI_pos (by omega)) (br_t (nI_lt (b := 4) hn (by omega)) ?_)
  refine se_wf hs ?_
  refine And.intro (vp_in_nI (by omega) (by omega)) ?_
  exact br_f (by rw [ed, em]; exact hr) hp
theorem se_Yd2 (hn : n < 4) (hs : s < 6) (hd : d ≤ 3) (em : mk d = nI m) (hr : se_f na (nI n) s < nI m) (hp : post (nI s) (nI (s + 1), nI d, upd na s (nI n), upd ty s (se_t t), mk)) : wpY_declare post (nI s, nI d, na, ty, mk) (nI n) t := by
  have ed : (nI d).toNatClampNeg = d := nI_clamp (by omega)
  have es : (nI s).toNatClampNeg = s := nI_clamp (by omega)
  have hi : vp_in (nI s) 6 := vp_in_nI (by omega) (by omega)
  unfold wpY_declare
  refine br_f (nI_pos (by omega)) (br_t (nI_lt (b := 4) hn (by omega)) ?_)
  refine se_wf (by omega) ?_
  refine And.intro (vp_in_nI (by omega) (by omega)) ?_
  refine br_t (by rw [ed, em]; exact hr) (br_t (nI_lt (b := 6) hs (by omega)) ?_)
  refine ⟨hi, nm_r (e' := upd na s (nI n)) (by rw [es, se_sn2 (by omega)]) ⟨hi, nm_r (e' := upd ty s (se_t t)) (by rw [es]; rfl) (nm_r (e' := nI (s + 1)) (nI_1 s) hp)⟩⟩
theorem se_Yd3 (hn : n < 4) (hs : s = 6) (hd : d ≤ 3) (em : mk d = nI m) (hr : se_f na (nI n) s < nI m) (hp : post (-3) (nI s, nI d, na, ty, mk)) : wpY_declare post (nI s, nI d, na, ty, mk) (nI n) t := by
  have ed : (nI d).toNatClampNeg = d := nI_clamp (by omega)
  unfold wpY_declare
  refine br_f (nI_pos (by omega)) (br_t (nI_lt (b := 4) hn (by omega)) ?_)
  refine se_wf (by omega) ?_
  refine And.intro (vp_in_nI (by omega) (by omega)) ?_
  exact br_t (by rw [ed, em]; exact hr) (br_f (nI_nlt (b := 6) (by omega) (by omega)) hp)
end
/-! the component's declare behind the check, in step with the reference's -/
theorem se_Xj {k : Nat} {t : Int32} {hd ty pr na mk : Nat → Int32} {s d n : Nat} {M : Nat → Nat} (hn : n < 4) (hs : s ≤ 6) (hdp : d ≤ 3) (hM : se_M M mk d s) (hG : se_G na pr ty s) (hH : se_H hd na s) (hr : se_f na (nI n) s < nI (M d)) :
    wX_declare_38 (fun r u' => wpY_declare (fun r' v' => r' = r ∧ i_Rel k u' v') (nI s, nI d, na, ty, mk) (nI n) t) (nI n) t (se_f na (nI n) s) (nI s) (nI d) hd ty pr na mk := by
  have em := hM.1 d (Nat.le_refl d)
  by_cases c : s < 6
  · have es : (nI s).toNatClampNeg = s := nI_clamp (by omega)
    have en : (nI n).toNatClampNeg = n := nI_clamp (by omega)
    have hi : vp_in (nI s) 6 := vp_in_nI (by omega) (by omega)
    refine br_t (nI_lt (b := 6) c (by omega)) ?_
    refine ⟨hi, nm_r (e' := upd ty s (se_t t)) (by rw [es]; rfl) ⟨hi, nm_r (e' := upd pr s (se_f na (nI n) s)) (by rw [es, se_fs2 na _ hs]) ⟨hi, nm_r (e' := upd na s (nI n)) (by rw [es, se_sn2 (by omega)]) ⟨vp_in_nI hn (by omega), nm_r (e' := upd hd n (nI s)) (by rw [en, se_sn2 (by omega)]) (nm_r (e' := nI (s + 1)) (nI_1 s) ?_)⟩⟩⟩⟩
    exact se_Yd2 hn c hdp em hr ⟨rfl, s + 1, d, M, _, _, _, _, _, rfl, rfl, by omega, hdp, se_Mup hM, se_pushG hG hn (se_ty t), se_pushH hH hn⟩
  · refine br_f (nI_nlt (b := 6) (by omega) (by omega)) ?_
    exact se_Yd3 hn (by omega) hdp em hr ⟨rfl, s, d, M, _, _, _, _, _, rfl, rfl, hs, hdp, hM, hG, hH⟩
theorem se_neg {x : Int32} {m : Nat} (hm : m < 2 ^ 31) (h : x < 0) : x < nI m := Int32.lt_of_lt_of_le h (nI_pos' hm)
theorem se_4 {x : Int32} (h : nI 4 ≤ x) : ¬ x < 0 ∧ ¬ x < 4 := by
  rw [Int32.le_iff_toInt_le, nI_toInt (by omega)] at h
  rw [Int32.lt_iff_toInt_lt, Int32.lt_iff_toInt_lt]
  have a : (0 : Int32).toInt = 0 := by decide
  have b : (4 : Int32).toInt = 4 := by decide
  rw [a, b]
  omega
theorem i_vc_declare {k : Nat} {u : SX} {v : SY} (I : i_Rel k u v) (hk : k + 3 ≤ 1536) (v1 : Int32) (v2 : Int32) : wpX_declare (fun r u' => wpY_declare (fun r' v' => r' = r ∧ i_Rel (k + 3) u' v') v v1 v2) u v1 v2 := by
  obtain ⟨s, d, M, hd, ty, pr, na, mk, rfl, rfl, hs, hdp, hM, hG, hH⟩ := I
  have R : i_Rel (k + 3) (nI s, nI d, hd, ty, pr, na, mk) (nI s, nI d, na, ty, mk) := ⟨s, d, M, hd, ty, pr, na, mk, rfl, rfl, hs, hdp, hM, hG, hH⟩
  rcases pk_ix v1 (n := 4) (by omega) with h | h | ⟨n, hn, rfl⟩
  · exact br_t h (br_t h ⟨rfl, R⟩)
  · obtain ⟨h0, h4⟩ := se_4 h
    exact br_f h0 (br_f h4 (br_f h0 (br_f h4 ⟨rfl, R⟩)))
  · have ed : (nI d).toNatClampNeg = d := nI_clamp (by omega)
    have em := hM.1 d (Nat.le_refl d)
    have hm := hM.2.2
    refine br_f (nI_pos (by omega)) (br_t (nI_lt (b := 4) hn (by omega)) ⟨vp_in_nI hn (by omega), nm_r (e' := se_f na (nI n) s) (by rw [nI_clamp (by omega), hH n hn]) ?_⟩)
    by_cases c : se_f na (nI n) s < 0
    · exact br_t c (se_Xj hn hs hdp hM hG hH (se_neg (by omega) c))
    · refine br_f c ⟨vp_in_nI (by omega) (by omega), ?_⟩
      by_cases c2 : se_f na (nI n) s < nI (M d)
      · exact br_t (by rw [ed, em]; exact c2) (se_Xj hn hs hdp hM hG hH c2)
      · exact br_f (by rw [ed, em]; exact c2) (se_Yd1 hn hs hdp em c2 ⟨rfl, R⟩)
theorem i_vc_lookup {k : Nat} {u : SX} {v : SY} (I : i_Rel k u v) (hk : k + 3 ≤ 1536) (v1 : Int32) : wpX_lookup (fun r => wpY_lookup (fun r' => r' = r ∧ i_Rel (k + 3) u v) v v1) u v1 := by
  obtain ⟨s, d, M, hd, ty, pr, na, mk, rfl, rfl, hs, hdp, hM, hG, hH⟩ := I
  have R : i_Rel (k + 3) (nI s, nI d, hd, ty, pr, na, mk) (nI s, nI d, na, ty, mk) := ⟨s, d, M, hd, ty, pr, na, mk, rfl, rfl, hs, hdp, hM, hG, hH⟩
  rcases pk_ix v1 (n := 4) (by omega) with h | h | ⟨n, hn, rfl⟩
  · exact br_t h (br_t h ⟨rfl, R⟩)
  · obtain ⟨h0, h4⟩ := se_4 h
    exact br_f h0 (br_f h4 (br_f h0 (br_f h4 ⟨rfl, R⟩)))
  · have p0 : ¬ nI n < 0 := nI_pos (by omega)
    have p4 : nI n < 4 := nI_lt (b := 4) hn (by omega)
    rcases se_r na (nI n) s with e | ⟨j, hj, e⟩
    · refine br_f p0 (br_t p4 ⟨vp_in_nI hn (by omega), nm_r (e' := -1) (by rw [nI_clamp (by omega), hH n hn, e]) (br_f (by decide) ?_)⟩)
      unfold wpY_lookup
      refine br_f p0 (br_t p4 ?_)
      refine se_wf hs ?_
      rw [e]
      exact br_f (by decide) ⟨rfl, R⟩
    · have ej : (nI j).toNatClampNeg = j := nI_clamp (by omega)
      refine br_f p0 (br_t p4 ⟨vp_in_nI hn (by omega), nm_r (e' := nI j) (by rw [nI_clamp (by omega), hH n hn, e]) (br_t (nI_pos' (by omega)) ⟨vp_in_nI (by omega) (by omega), ?_⟩)⟩)
      unfold wpY_lookup
      refine br_f p0 (br_t p4 ?_)
      refine se_wf hs ?_
      rw [e]
      exact br_t (nI_pos' (by omega)) ⟨vp_in_nI (by omega) (by omega), by rw [ej, (hG j hj).2.2], R⟩
theorem i_vc_enter {k : Nat} {u : SX} {v : SY} (I : i_Rel k u v) (hk : k + 3 ≤ 1536) : wpX_enter (fun r u' => wpY_enter (fun r' v' => r' = r ∧ i_Rel (k + 3) u' v') v) u := by
  obtain ⟨s, d, M, hd, ty, pr, na, mk, rfl, rfl, hs, hdp, hM, hG, hH⟩ := I
  by_cases c : d < 3
  · have h3 : nI d < 3 := nI_lt (b := 3) c (by omega)
    have ed : (nI (d + 1)).toNatClampNeg = d + 1 := nI_clamp (by omega)
    have hi : vp_in (nI (d + 1)) 4 := vp_in_nI (by omega) (by omega)
    refine br_t h3 (nm_r (e' := nI (d + 1)) (nI_1 d) ⟨hi, nm_r (e' := upd mk (d + 1) (nI s)) (by rw [ed, se_sn2 (by omega)]) ?_⟩)
    refine br_t h3 (nm_r (e' := nI (d + 1)) (nI_1 d) ⟨hi, nm_r (e' := upd mk (d + 1) (nI s)) (by rw [ed]) ?_⟩)
    exact ⟨rfl, s, d + 1, _, hd, ty, pr, na, _, rfl, rfl, hs, by omega, se_Mpush hM, hG, hH⟩
  · have h3 : ¬ nI d < 3 := nI_nlt (b := 3) (by omega) (by omega)
    exact br_f h3 (br_f h3 ⟨rfl, s, d, M, hd, ty, pr, na, mk, rfl, rfl, hs, hdp, hM, hG, hH⟩)
/-! the component's leave: the loop -/
theorem se_Xl {post : Int32 → SX → Prop} {fd : Int32} {ty pr na mk : Nat → Int32} {m : Nat} : ∀ (j c n : Nat) (hd : Nat → Int32), m + j ≤ 6 → j < n → se_G na pr ty (m + j) → se_H hd na (m + j) → (∀ hd', se_H hd' na m → post (nI (c + j)) (nI m, fd - 1, hd', ty, pr, na, mk)) → wX_leave_21 post (nI m) fd n (nI c) (nI (m + j)) hd ty pr na mk := by
  intro j
  induction j with
  | zero =>
    intro c n hd hm hn hG hH hp
    obtain ⟨n, rfl⟩ : ∃ n', n = n' + 1 := ⟨n - 1, by omega⟩
    exact br_t (nI_le (by omega) (by omega)) (nm_e (hp hd hH))
  | succ j ih =>
    intro c n hd hm hn hG hH hp
    obtain ⟨n, rfl⟩ : ∃ n', n = n' + 1 := ⟨n - 1, by omega⟩
    obtain ⟨⟨q, hq, eq⟩, ep, et⟩ := hG (m + j) (by omega)
    have ej : (nI (m + j)).toNatClampNeg = m + j := nI_clamp (by omega)
    have hi : vp_in (nI (m + j)) 6 := vp_in_nI (by omega) (by omega)
    refine br_f (nI_ge (by omega) (by omega)) (nm_r (e' := nI (m + j)) (nI_pred (m + j)) ⟨hi, hi, ?_, nm_r (e' := upd hd q (pr (m + j))) ?_ (nm_r (e' := nI (c + 1)) (nI_1 c) ?_)⟩)
    · rw [ej, eq]; exact vp_in_nI hq (by omega)
    · rw [ej, eq, nI_clamp (by omega), ep, se_fs na _ (by omega)]
    · refine ih (c + 1) n _ (by omega) (by omega) (se_Gm (by omega) hG) (se_pop hH hG hq eq) fun hd' h' => ?_
      have e : c + 1 + j = c + (j + 1) := by omega
      rw [e]
      exact hp hd' h'
theorem i_vc_leave {k : Nat} {u : SX} {v : SY} (I : i_Rel k u v) (hk : k + 3 ≤ 1536) : wpX_leave (fun r u' => wpY_leave (fun r' v' => r' = r ∧ i_Rel (k + 3) u' v') v) u := by
  obtain ⟨s, d, M, hd, ty, pr, na, mk, rfl, rfl, hs, hdp, hM, hG, hH⟩ := I
  cases d with
  | zero => exact br_f (by decide) (br_t (by decide) ⟨rfl, s, 0, M, hd, ty, pr, na, mk, rfl, rfl, hs, hdp, hM, hG, hH⟩)
  | succ d =>
    have ed : (nI (d + 1)).toNatClampNeg = d + 1 := nI_clamp (by omega)
    have hi : vp_in (nI (d + 1)) 4 := vp_in_nI (by omega) (by omega)
    have em := hM.1 (d + 1) (Nat.le_refl _)
    have hm := hM.2.2
    obtain ⟨j, ej⟩ : ∃ j, s = M (d + 1) + j := ⟨s - M (d + 1), by omega⟩
    refine br_t (nI_lt (a := 0) (by omega) (by omega)) ⟨hi, nm_r (e' := nI (M (d + 1))) (by rw [ed, em]) ⟨7, ?_⟩⟩
    have H := se_Xl (post := fun r u' => wpY_leave (fun r' v' => r' = r ∧ i_Rel (k + 3) u' v') (nI s, nI (d + 1), na, ty, mk)) (fd := nI (d + 1)) (mk := mk) (m := M (d + 1)) j 0 7 hd (by omega) (by omega) (ej ▸ hG) (ej ▸ hH) ?_
    · rw [← ej] at H
      exact H
    · intro hd' h'
      refine br_f (nI_ne0 (by omega) (by omega)) ⟨hi, nm_r (e' := nI (0 + j)) ?_ ⟨hi, nm_r (e' := nI (M (d + 1))) (by rw [ed, em]) (nm_e ?_)⟩⟩
      · rw [ed, em, pk_sub hm]
        exact congrArg nI (by omega)
      · rw [nI_pred]
        exact ⟨rfl, M (d + 1), d, M, hd', ty, pr, na, mk, rfl, rfl, by omega, by omega, se_Mpop hM, se_Gm hm hG, h'⟩
end

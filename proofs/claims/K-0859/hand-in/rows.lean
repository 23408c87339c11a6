section
/-! rows of the kit's to-paste file (stores, differences, masks) -/
theorem pk_us {f : Nat → Int32} {k : Nat} {x : Int32} : upd f k x k = x := if_pos rfl
theorem pk_un {f : Nat → Int32} {k j : Nat} {x : Int32} (h : j ≠ k) : upd f k x j = f j := if_neg h
theorem pk_sub {a b : Nat} (h : b ≤ a) : nI a - nI b = nI (a - b) := by
  obtain ⟨c, rfl⟩ : ∃ c, a = c + b := ⟨a - b, by omega⟩
  rw [← nI_add, Int32.add_sub_cancel, Nat.add_sub_cancel]
theorem pk_sub_toInt {a b : Nat} (ha : a < 2 ^ 30) (hb : b < 2 ^ 30) : (nI a - nI b).toInt = (a : Int) - b := by
  rw [Int32.toInt_sub, nI_toInt (by omega), nI_toInt (by omega)]
  exact Int.bmod_eq_of_le (by omega) (by omega)
theorem pk_sneg {a b : Nat} (hb : b < 2 ^ 30) (h : a < b) : nI a - nI b < 0 := by
  rw [Int32.lt_iff_toInt_lt, pk_sub_toInt (by omega) hb, show (0 : Int32).toInt = 0 from by decide]
  omega
theorem pk_tn {n : Nat} (h : n < 2 ^ 32) : (nI n).toBitVec.toNat = n := Nat.mod_eq_of_lt h
theorem pk_and (x : Int32) {m : Int32} (k : Nat) (hm : m.toBitVec.toNat = 2 ^ k - 1) : x &&& m = nI (x.toBitVec.toNat % 2 ^ k) := by
  apply Int32.toBitVec_inj.mp
  apply BitVec.eq_of_toNat_eq
  rw [Int32.toBitVec_and, BitVec.toNat_and, hm, Nat.and_two_pow_sub_one_eq_mod]
  show _ = (BitVec.ofNat 32 _).toNat
  rw [BitVec.toNat_ofNat]
  exact (Nat.mod_eq_of_lt (Nat.lt_of_le_of_lt (Nat.mod_le _ _) x.toBitVec.isLt)).symm
theorem pk_andN {n : Nat} (h : n < 2 ^ 32) {m : Int32} (k : Nat) (hm : m.toBitVec.toNat = 2 ^ k - 1) : nI n &&& m = nI (n % 2 ^ k) := by
  rw [pk_and _ k hm, pk_tn h]
/-! ===== the plain law: counts of 64 cylinders and their sum ===== -/
/-- the sum of the first n counts -/
def cd_sum (c : Nat → Nat) : Nat → Nat
  | 0 => 0
  | n + 1 => cd_sum c n + c n
/-- the counts with x at k -/
def cd_set (c : Nat → Nat) (k x : Nat) : Nat → Nat := fun j => if j = k then x else c j
theorem cd_sum_le {c : Nat → Nat} (h : ∀ j, c j ≤ 3) : ∀ n, cd_sum c n ≤ 3 * n
  | 0 => Nat.le_refl 0
  | n + 1 => by
    have := cd_sum_le h n
    have := h n
    show cd_sum c n + c n ≤ 3 * (n + 1)
    omega
theorem cd_sum_ge {c : Nat → Nat} {j : Nat} : ∀ n, j < n → c j ≤ cd_sum c n
  | 0, h => absurd h (Nat.not_lt_zero j)
  | n + 1, h => by
    show c j ≤ cd_sum c n + c n
    by_cases e : j = n
    · rw [e]; omega
    · have := cd_sum_ge (c := c) n (by omega : j < n)
      omega
theorem cd_sum_out {c : Nat → Nat} {k x : Nat} : ∀ n, n ≤ k → cd_sum (cd_set c k x) n = cd_sum c n
  | 0, _ => rfl
  | n + 1, h => by
    show cd_sum (cd_set c k x) n + cd_set c k x n = cd_sum c n + c n
    have e : cd_set c k x n = c n := if_neg (by omega)
    rw [cd_sum_out n (by omega), e]
theorem cd_sum_set {c : Nat → Nat} {k x : Nat} : ∀ n, k < n → cd_sum (cd_set c k x) n + c k = cd_sum c n + x
  | 0, h => absurd h (Nat.not_lt_zero k)
  | n + 1, h => by
    show cd_sum (cd_set c k x) n + cd_set c k x n + c k = cd_sum c n + c n + x
    by_cases e : n = k
    · subst e
      have e2 : cd_set c n x n = x := if_pos rfl
      rw [cd_sum_out n (Nat.le_refl n), e2]
      omega
    · have e2 : cd_set c k x n = c n := if_neg e
      have := cd_sum_set (c := c) (x := x) n (by omega : k < n)
      rw [e2]
      omega
theorem cd_set_le {c : Nat → Nat} {k x : Nat} (h : ∀ j, c j ≤ 3) (hx : x ≤ 3) : ∀ j, cd_set c k x j ≤ 3 := by
  intro j
  show (if j = k then x else c j) ≤ 3
  split
  · exact hx
  · exact h j
theorem cd_upd (c : Nat → Nat) (k x : Nat) : upd (fun j => nI (c j)) k (nI x) = fun j => nI (cd_set c k x j) := by
  funext j
  by_cases e : j = k
  · subst e
    rw [pk_us, show cd_set c j x j = x from if_pos rfl]
  · rw [pk_un e, show cd_set c k x j = c j from if_neg e]
theorem cd_byte : ∀ x, x < 5 → vp_nar .byte ((nI x).toInt8.toInt32) = nI x := by
  intro x hx
  rw [vp_nar_byte]
  rcases (by omega : x = 0 ∨ x = 1 ∨ x = 2 ∨ x = 3 ∨ x = 4) with e | e | e | e | e <;> subst e <;> decide +kernel
/-- the arm's way from h to p -/
def cd_dist (p h : Nat) : Nat := if p < h then h - p else p - h
theorem cd_63 : nI 63 = 63 := by decide +kernel
theorem cd_64 : nI 64 = 64 := by decide +kernel
theorem cd_3 : nI 3 = 3 := by decide +kernel
end
section
/-! ===== the two scans, a row of the loop at a time ===== -/
section
variable {p h i n : Nat} {D x1 : Int32} {t : Int64} {a : Nat → Int32}
theorem cd_X57 {post : Int32 → SX → Prop} (hp : p < 64) (hh : h < 64) (H : post (nI p) (nI p, D - 1, t + 50000000 * (nI (cd_dist p h)).toInt64, upd a p (a p - 1))) : wX_service_57 post (nI p) (nI h) D t a := by
  have hi : vp_in (nI p) 64 := vp_in_nI hp (by omega)
  have hcl : (nI p).toNatClampNeg = p := nI_clamp (by omega)
  unfold wX_service_57
  refine br_t (nI_pos' (by omega)) ⟨hi, hi, fun a' ea d' ed x ex => ?_⟩
  rw [hcl] at ea
  subst ea ed
  by_cases hl : p < h
  · have hn : ¬ 0 ≤ x := by rw [ex]; exact Int32.not_le.mpr (pk_sneg (by omega) hl)
    refine br_f hn (fun y ey s es => ?_)
    have e : y = nI (cd_dist p h) := by
      rw [ey, ex, Int32.neg_sub, pk_sub (by omega), cd_dist, if_pos hl]
    rw [es, e]
    exact H
  · have e : x = nI (cd_dist p h) := by
      rw [ex, pk_sub (by omega), cd_dist, if_neg hl]
    have hd : cd_dist p h < 64 := by rw [cd_dist, if_neg hl]; omega
    have hn : 0 ≤ x := by rw [e]; exact nI_pos' (by omega)
    refine br_t hn (fun s es => ?_)
    rw [es, e]
    exact H
theorem cd_Xe {post : Int32 → SX → Prop} (H : post (-1) (nI h, D, t, a)) : wX_service_13 post (-1) (nI h) D t a (n + 1) (nI 64) := by
  have h6 : (64 : Int32) ≤ nI 64 := by decide +kernel
  have h0 : ¬ (0 : Int32) ≤ -1 := by decide
  refine br_t h6 ?_
  unfold wX_service_57
  exact br_f h0 H
theorem cd_X13 {post : Int32 → SX → Prop} (hi : i < 64) (hh : h < 64) (H : wX_service_37 post (wX_service_13 post x1 (nI h) D t a n) x1 (nI i) (nI ((h + i) % 64)) (nI h) D t a) : wX_service_13 post x1 (nI h) D t a (n + 1) (nI i) := by
  have h6 : ¬ (64 : Int32) ≤ nI i := by rw [← cd_64]; exact nI_ge hi (by omega)
  refine br_f h6 (fun y ey => ?_)
  rw [nI_add] at ey
  by_cases hl : h + i ≤ 63
  · have hy : y ≤ 63 := by rw [ey, ← cd_63]; exact nI_le hl (by omega)
    have e : y = nI ((h + i) % 64) := by rw [ey, Nat.mod_eq_of_lt (by omega)]
    refine br_t hy ?_
    rw [e]
    exact H
  · have hy : ¬ y ≤ 63 := by rw [ey, ← cd_63]; exact nI_ge (by omega) (by omega)
    refine br_f hy (fun z ez => ?_)
    have e : z = nI ((h + i) % 64) := by
      rw [ez, ey, ← cd_64, pk_sub (by omega)]
      exact congrArg nI (by omega)
    rw [e]
    exact H
theorem cd_Xf {post : Int32 → SX → Prop} (hi : i < 64) (hh : h < 64) (hp : p = (h + i) % 64) (hz : ¬ a p ≤ 0) (H : post (nI p) (nI p, D - 1, t + 50000000 * (nI (cd_dist p h)).toInt64, upd a p (a p - 1))) : wX_service_13 post x1 (nI h) D t a (n + 1) (nI i) := by
  have hp6 : p < 64 := by omega
  have hcl : (nI p).toNatClampNeg = p := nI_clamp (by omega)
  refine cd_X13 hi hh ?_
  rw [← hp]
  unfold wX_service_37
  rw [hcl]
  exact ⟨vp_in_nI hp6 (by omega), br_f hz (cd_X57 hp6 hh H)⟩
theorem cd_Xn {post : Int32 → SX → Prop} (hi : i < 64) (hh : h < 64) (hp : p = (h + i) % 64) (hz : a p ≤ 0) (H : wX_service_13 post x1 (nI h) D t a n (nI (i + 1))) : wX_service_13 post x1 (nI h) D t a (n + 1) (nI i) := by
  have hp6 : p < 64 := by omega
  have hcl : (nI p).toNatClampNeg = p := nI_clamp (by omega)
  refine cd_X13 hi hh ?_
  rw [← hp]
  unfold wX_service_37
  rw [hcl]
  refine ⟨vp_in_nI hp6 (by omega), br_t hz (fun y ey => ?_)⟩
  rw [ey, nI_1 i]
  exact H
theorem cd_Ye {post : Int32 → SY → Prop} (H : post (-1) (nI h, D, t, a)) : wY_service_2 post (nI h) D t a (n + 1) (nI 64) := by
  have h6 : (64 : Int32) ≤ nI 64 := by decide +kernel
  exact br_t h6 H
theorem cd_Yx (hh : h < 64) (hi : i < 64) (hp : p = (h + i) % 64) : (nI h + nI i) &&& 63 = nI p := by
  rw [nI_add, pk_andN (by omega) 6 (by decide), hp]
theorem cd_Yn {post : Int32 → SY → Prop} (hi : i < 64) (hh : h < 64) (hp : p = (h + i) % 64) (hz : a p ≤ 0) (H : wY_service_2 post (nI h) D t a n (nI (i + 1))) : wY_service_2 post (nI h) D t a (n + 1) (nI i) := by
  have h6 : ¬ (64 : Int32) ≤ nI i := by rw [← cd_64]; exact nI_ge hi (by omega)
  have hp6 : p < 64 := by omega
  have hcl : (nI p).toNatClampNeg = p := nI_clamp (by omega)
  refine br_f h6 (fun x ex => ?_)
  rw [cd_Yx hh hi hp] at ex
  subst ex
  rw [hcl]
  refine ⟨vp_in_nI hp6 (by omega), br_t hz (fun y ey => ?_)⟩
  rw [ey, nI_1 i]
  exact H
theorem cd_Yf {post : Int32 → SY → Prop} (hi : i < 64) (hh : h < 64) (hp : p = (h + i) % 64) (hz : ¬ a p ≤ 0) (hb : vp_nar .byte ((a p - 1).toInt8.toInt32) = a p - 1) (H : post (nI p) (nI p, D - 1, t + 50000000 * (nI (cd_dist p h)).toInt64, upd a p (a p - 1))) : wY_service_2 post (nI h) D t a (n + 1) (nI i) := by
  have h6 : ¬ (64 : Int32) ≤ nI i := by rw [← cd_64]; exact nI_ge hi (by omega)
  have hp6 : p < 64 := by omega
  have hcl : (nI p).toNatClampNeg = p := nI_clamp (by omega)
  have hin : vp_in (nI p) 64 := vp_in_nI hp6 (by omega)
  refine br_f h6 (fun x ex => ?_)
  rw [cd_Yx hh hi hp] at ex
  subst ex
  rw [hcl, hb]
  refine ⟨hin, br_f hz ⟨hin, hin, fun b eb e ee => ?_⟩⟩
  subst eb ee
  by_cases hl : p < h
  · refine br_t (nI_lt hl (by omega)) (fun s es => ?_)
    rw [es, pk_sub (by omega), Int64.mul_comm, show h - p = cd_dist p h from (if_pos hl).symm]
    exact H
  · refine br_f (nI_nlt (by omega) (by omega)) (fun s es => ?_)
    rw [es, pk_sub (by omega), Int64.mul_comm, show p - h = cd_dist p h from (if_neg hl).symm]
    exact H
end
end
section
/-- a state that the calls reach: the head is a cylinder, every count is at most 3, and the depth is the counts' sum -/
def cd_Ok (w : SX) : Prop := ∃ (h : Nat) (t : Int64) (c : Nat → Nat), h < 64 ∧ (∀ j, c j ≤ 3) ∧ w = (nI h, nI (cd_sum c 64), t, fun j => nI (c j))
/-- both objects hold the same head, depth, total and counts -/
def i_Rel (_ : Nat) (u : SX) (v : SY) : Prop := v = u ∧ cd_Ok u
theorem i_up {k : Nat} {u : SX} {v : SY} (h : i_Rel k u v) : i_Rel (k + 2) u v := h
theorem cd_sum0 : ∀ n, cd_sum (fun _ => 0) n = 0
  | 0 => rfl
  | n + 1 => cd_sum0 n
theorem i_vc0 : wpX_init (fun u => wpY_init (fun v => i_Rel 0 u v)) := by
  refine ⟨rfl, 0, 0, fun _ => 0, by omega, fun _ => Nat.zero_le 3, ?_⟩
  rw [cd_sum0, nI_0]
  dsimp only
  rw [nI_0]
theorem i_vc_submit {k : Nat} {u : SX} {v : SY} (I : i_Rel k u v) (hk : k + 2 ≤ 1024) (v1 : Int32) : wpX_submit (fun r u' => wpY_submit (fun r' v' => r' = r ∧ i_Rel (k + 2) u' v') v v1) u v1 := by
  obtain ⟨rfl, h, t, c, hh, hc, rfl⟩ := I
  have R : cd_Ok (nI h, nI (cd_sum c 64), t, fun j => nI (c j)) := ⟨h, t, c, hh, hc, rfl⟩
  by_cases h0 : v1 < 0
  · exact br_t h0 (br_t h0 ⟨rfl, rfl, R⟩)
  · by_cases h6 : v1 ≤ 63
    · obtain ⟨j, hj, rfl⟩ := nI_of2 (M := 63) (n := 63) (by decide) h0 h6
      have hi : vp_in (nI j) 64 := vp_in_nI (by omega) (by omega)
      have hcl : (nI j).toNatClampNeg = j := nI_clamp (by omega)
      by_cases h3 : nI (c (nI j).toNatClampNeg) < 3
      · have hx := h3
        rw [hcl, ← cd_3, nI_ltI (by have := hc j; omega) (by omega)] at hx
        refine br_f h0 (br_t h6 ⟨hi, br_t h3 ⟨hi, hi, fun a ea d ed => ?_⟩⟩)
        refine br_f h0 (br_t h6 ⟨hi, br_t h3 ⟨hi, hi, fun b eb e ee => ?_⟩⟩)
        have ea' : a = fun i => nI (cd_set c j (c j + 1) i) := by
          rw [ea, hcl, ← cd_upd]
          exact congrArg (upd (fun i => nI (c i)) j) (nI_1 (c j))
        have eb' : b = a := by
          rw [eb, ea, hcl]
          have e1 : nI (c j) + 1 = nI (c j + 1) := nI_1 (c j)
          show upd _ j (vp_nar .byte ((nI (c j) + 1).toInt8.toInt32)) = upd _ j (nI (c j) + 1)
          rw [e1, cd_byte (c j + 1) (by omega)]
        have ed' : d = nI (cd_sum (cd_set c j (c j + 1)) 64) := by
          have := cd_sum_set (c := c) (x := c j + 1) 64 (by omega : j < 64)
          rw [ed, nI_1]
          exact congrArg nI (by omega)
        refine ⟨ed.symm, ?_, h, t, cd_set c j (c j + 1), hh, cd_set_le hc (by omega), ?_⟩
        · rw [eb', ee, ← ed]
        · rw [ea', ed']
      · exact br_f h0 (br_t h6 ⟨hi, br_f h3 (br_f h0 (br_t h6 ⟨hi, br_f h3 ⟨rfl, rfl, R⟩⟩))⟩)
    · exact br_f h0 (br_f h6 (br_f h0 (br_f h6 ⟨rfl, rfl, R⟩)))
theorem cd_scan {h : Nat} (t : Int64) {c : Nat → Nat} (hh : h < 64) (hc : ∀ j, c j ≤ 3) : ∀ f i : Nat, i + f = 64 → ∃ (r : Int32) (w : SX), cd_Ok w ∧ ((∀ j, j < 64 → c j = 0) → r = -1 ∧ w = (nI h, nI (cd_sum c 64), t, fun j => nI (c j))) ∧ (∀ post : Int32 → SX → Prop, post r w → wX_service_13 post (-1) (nI h) (nI (cd_sum c 64)) t (fun j => nI (c j)) (f + 1) (nI i)) ∧ (∀ post : Int32 → SY → Prop, post r w → wY_service_2 post (nI h) (nI (cd_sum c 64)) t (fun j => nI (c j)) (f + 1) (nI i)) := by
  intro f
  induction f with
  | zero =>
    intro i hi
    obtain rfl : i = 64 := by omega
    exact ⟨-1, _, ⟨h, t, c, hh, hc, rfl⟩, fun _ => ⟨rfl, rfl⟩, fun post H => cd_Xe H, fun post H => cd_Ye H⟩
  | succ f ih =>
    intro i hi
    obtain ⟨p, hp⟩ : ∃ p, p = (h + i) % 64 := ⟨_, rfl⟩
    have hp6 : p < 64 := by omega
    have hcp := hc p
    by_cases z : c p = 0
    · obtain ⟨r, w, hw, h0, hX, hY⟩ := ih (i + 1) (by omega)
      have hz : (fun j => nI (c j)) p ≤ 0 := by
        show nI (c p) ≤ 0
        rw [z]
        decide
      exact ⟨r, w, hw, h0, fun post H => cd_Xn (by omega) hh hp hz (hX post H), fun post H => cd_Yn (by omega) hh hp hz (hY post H)⟩
    · have hz : ¬ (fun j => nI (c j)) p ≤ 0 := nI_nle (by omega) (by omega)
      have e1 : (fun j => nI (c j)) p - 1 = nI (c p - 1) := by
        obtain ⟨m, hm⟩ : ∃ m, c p = m + 1 := ⟨c p - 1, by omega⟩
        show nI (c p) - 1 = nI (c p - 1)
        rw [hm, nI_pred]
        rfl
      have hb : vp_nar .byte (((fun j => nI (c j)) p - 1).toInt8.toInt32) = (fun j => nI (c j)) p - 1 := by
        rw [e1]
        exact cd_byte _ (by omega)
      have hs := cd_sum_set (c := c) (x := c p - 1) 64 hp6
      have eD : nI (cd_sum c 64) - 1 = nI (cd_sum (cd_set c p (c p - 1)) 64) := by
        obtain ⟨m, hm⟩ : ∃ m, cd_sum c 64 = m + 1 := ⟨cd_sum c 64 - 1, by omega⟩
        rw [hm, nI_pred]
        exact congrArg nI (by omega)
      have eU : upd (fun j => nI (c j)) p ((fun j => nI (c j)) p - 1) = fun j => nI (cd_set c p (c p - 1) j) := by
        rw [e1, cd_upd]
      refine ⟨nI p, (nI p, nI (cd_sum c 64) - 1, t + 50000000 * (nI (cd_dist p h)).toInt64, upd (fun j => nI (c j)) p ((fun j => nI (c j)) p - 1)), ?_, fun ha => absurd (ha p hp6) z, fun post H => cd_Xf (by omega) hh hp hz H, fun post H => cd_Yf (by omega) hh hp hz hb H⟩
      refine ⟨p, t + 50000000 * (nI (cd_dist p h)).toInt64, cd_set c p (c p - 1), hp6, cd_set_le hc (by omega), ?_⟩
      rw [eD, eU]
theorem i_vc_service {k : Nat} {u : SX} {v : SY} (I : i_Rel k u v) (hk : k + 2 ≤ 1024) : wpX_service (fun r u' => wpY_service (fun r' v' => r' = r ∧ i_Rel (k + 2) u' v') v) u := by
  obtain ⟨rfl, h, t, c, hh, hc, rfl⟩ := I
  have R : cd_Ok (nI h, nI (cd_sum c 64), t, fun j => nI (c j)) := ⟨h, t, c, hh, hc, rfl⟩
  have hS := cd_sum_le hc 64
  obtain ⟨r, w, hw, hn, hX, hY⟩ := cd_scan t hh hc 64 0 rfl
  rw [nI_0] at hX hY
  by_cases h0 : 0 < nI (cd_sum c 64)
  · exact br_t h0 ⟨_, hX _ ⟨_, hY _ ⟨rfl, rfl, hw⟩⟩⟩
  · have hz : ∀ j, j < 64 → c j = 0 := by
      intro j hj
      have h1 := cd_sum_ge (c := c) 64 hj
      rw [← nI_0, nI_ltI (by omega) (by omega)] at h0
      omega
    obtain ⟨rfl, rfl⟩ := hn hz
    exact br_f h0 ⟨_, hY _ ⟨rfl, rfl, R⟩⟩
theorem i_vc_travelled {k : Nat} {u : SX} {v : SY} (I : i_Rel k u v) (hk : k + 2 ≤ 1024) : wpX_travelled (fun r => wpY_travelled (fun r' => r' = r ∧ i_Rel (k + 2) u v) v) u := by
  obtain ⟨rfl, h, t, c, hh, hc, rfl⟩ := I
  have R : cd_Ok (nI h, nI (cd_sum c 64), t, fun j => nI (c j)) := ⟨h, t, c, hh, hc, rfl⟩
  by_cases ht : t ≤ 2147483647
  · exact br_t ht (br_t ht ⟨rfl, rfl, R⟩)
  · exact br_f ht (br_f ht ⟨rfl, rfl, R⟩)
theorem i_vc_depth {k : Nat} {u : SX} {v : SY} (I : i_Rel k u v) (hk : k + 2 ≤ 1024) : wpX_depth (fun r => wpY_depth (fun r' => r' = r ∧ i_Rel (k + 2) u v) v) u := by
  obtain ⟨rfl, h, t, c, hh, hc, rfl⟩ := I
  exact ⟨rfl, rfl, h, t, c, hh, hc, rfl⟩
end

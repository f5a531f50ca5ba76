section
theorem pk_sub {a b : Nat} (h : b ≤ a) : nI a - nI b = nI (a - b) := by
  obtain ⟨c, rfl⟩ : ∃ c, a = c + b := ⟨a - b, by omega⟩
  rw [← nI_add, Int32.add_sub_cancel, Nat.add_sub_cancel]
theorem pk_mul (a b : Nat) : nI a * nI b = nI (a * b) := (Int32.ofNat_mul a b).symm
theorem pk_div {a d : Nat} (ha : a < 2 ^ 31) (h0 : 0 < d) (hd : d < 2 ^ 31) : nI a / nI d = nI (a / d) := by
  apply Int32.toInt_inj.mp
  rw [lg_idiv_nonneg (by rw [nI_toInt ha]; omega) (by rw [nI_toInt hd]; omega), nI_toInt ha, nI_toInt hd, nI_toInt (Nat.lt_of_le_of_lt (Nat.div_le_self a d) ha)]
  first | rfl | exact (Int.natCast_ediv _ _).symm
theorem pk_rem {a d : Nat} (ha : a < 2 ^ 31) (h0 : 0 < d) (hd : d < 2 ^ 31) : nI a - nI a / nI d * nI d = nI (a % d) := by
  rw [pk_div ha h0 hd, pk_mul, pk_sub (Nat.div_mul_le_self a d)]
  exact congrArg nI (by have := Nat.div_add_mod' a d; omega)
theorem rd_32 : nI 32 = 32 := by decide +kernel
theorem rd_m10 (r : Nat) : nI r * 10 = nI (r * 10) := pk_mul r 10
end
section
/-- the two objects hold the same state; the divisor is 1 .. 31 and the remainder is below it -/
def i_Rel (_ : Nat) (u : SX) (v : SY) : Prop := ∃ (r d : Nat) (p q : Int32) (a : Nat → Int32), r < d ∧ d ≤ 31 ∧ u = (nI r, nI d, p, q, a) ∧ v = (nI r, nI d, p, q, a)
theorem i_up {k : Nat} {u : SX} {v : SY} (h : i_Rel k u v) : i_Rel (k + 3) u v := h
theorem i_vc0 : wpX_init (fun u => wpY_init (fun v => i_Rel 0 u v)) := by
  unfold wpX_init wpY_init
  exact ⟨0, 1, 0, 0, fun _ => 0, by omega, by omega, rfl, rfl⟩
/-- the clearing loop: both sides end with the same array -/
theorem rd_clear (fr fd fp fq : Int32) : ∀ (m j : Nat) (a : Nat → Int32), j + m = 32 → ∃ b : Nat → Int32, (∀ post : Int32 → SX → Prop, post 0 (fr, fd, 0, 0, b) → wX_start_33 post fr fd fp fq (m + 1) (nI j) a) ∧ (∀ post : Int32 → SY → Prop, post 0 (fr, fd, 0, 0, b) → wY_start_33 post fr fd fp fq (m + 1) (nI j) a) := by
  intro m
  induction m with
  | zero =>
    intro j a hj
    have h : (32 : Int32) ≤ nI j := by rw [← rd_32]; exact nI_le (by omega) (by omega)
    exact ⟨a, fun _ hp => br_t h hp, fun _ hp => br_t h hp⟩
  | succ m ih =>
    intro j a hj
    have h : ¬ (32 : Int32) ≤ nI j := by rw [← rd_32]; exact nI_ge (by omega) (by omega)
    have hi : vp_in (nI j) 32 := vp_in_nI (by omega) (by omega)
    obtain ⟨b, hX, hY⟩ := ih (j + 1) (upd a (nI j).toNatClampNeg (vp_nar .byte 0)) (by omega)
    refine ⟨b, fun post hp => br_f h ⟨hi, fun c ec y ey => ?_⟩, fun post hp => br_f h ⟨hi, fun c ec y ey => ?_⟩⟩
    · rw [ey, ec, nI_1]; exact hX post hp
    · rw [ey, ec, nI_1]; exact hY post hp
theorem i_vc_start {k : Nat} {u : SX} {v : SY} (I : i_Rel k u v) (hk : k + 3 ≤ 1536) (v1 : Int32) (v2 : Int32) : wpX_start (fun r u' => wpY_start (fun r' v' => r' = r ∧ i_Rel (k + 3) u' v') v v1 v2) u v1 v2 := by
  obtain ⟨r, d, p, q, a, hr, hd, rfl, rfl⟩ := I
  have same : i_Rel (k + 3) (nI r, nI d, p, q, a) (nI r, nI d, p, q, a) := ⟨r, d, p, q, a, hr, hd, rfl, rfl⟩
  unfold wpX_start wpY_start
  dsimp only
  by_cases h1 : v2 < 1
  · exact br_t h1 (br_t h1 ⟨rfl, same⟩)
  · by_cases h31 : v2 ≤ 31
    · by_cases h0 : 0 ≤ v1
      · obtain ⟨n, hn, rfl⟩ := nI_of (x := v1) (Int32.not_lt.mpr h0)
        have e1 : (1 : Int32).toInt = 1 := by decide
        have e31 : (31 : Int32).toInt = 31 := by decide
        have hv : ∃ e : Nat, 0 < e ∧ e ≤ 31 ∧ v2 = nI e := by
          rw [Int32.lt_iff_toInt_lt, e1] at h1
          rw [Int32.le_iff_toInt_le, e31] at h31
          refine ⟨v2.toInt.toNat, by omega, by omega, Int32.toInt_inj.mp ?_⟩
          rw [nI_toInt (by omega)]
          omega
        obtain ⟨e, he0, he, rfl⟩ := hv
        have hne : ¬ nI e = 0 := nI_ne0 he0 (by omega)
        have hrem : nI n - nI n / nI e * nI e = nI (n % e) := pk_rem hn he0 (by omega)
        obtain ⟨b, hX, hY⟩ := rd_clear (nI (n % e)) (nI e) p q 32 0 a rfl
        rw [nI_0] at hX hY
        exact br_f h1 (br_t h31 (br_t h0 ⟨hne, nm_r hrem ⟨_, hX _ (br_f h1 (br_t h31 (br_t h0 ⟨hne, nm_r hrem ⟨_, hY _ ⟨rfl, n % e, e, 0, 0, b, Nat.mod_lt _ he0, he, rfl, rfl⟩⟩⟩)))⟩⟩))
      · exact br_f h1 (br_t h31 (br_f h0 (br_f h1 (br_t h31 (br_f h0 ⟨rfl, same⟩)))))
    · exact br_f h1 (br_f h31 (br_f h1 (br_f h31 ⟨rfl, same⟩)))
/-- the tail of digit: the component's -/
theorem rd_X {r d : Nat} (h : r < d) (hd : d ≤ 31) (p q : Int32) (a : Nat → Int32) (post : Int32 → SX → Prop) (hp : post (nI (r * 10 / d)) (nI (r * 10 % d), nI d, p, q, a)) : wX_digit_59 post (nI r) (nI r) (nI d) p q a := by
  have hne : ¬ nI d = 0 := nI_ne0 (by omega) (by omega)
  unfold wX_digit_59
  exact nm_r (rd_m10 r) ⟨hne, nm_r (pk_div (by omega) (by omega) (by omega)) ⟨hne, nm_r (pk_rem (by omega) (by omega) (by omega)) hp⟩⟩
/-- the tail of digit: the reference's -/
theorem rd_Y {r d : Nat} (h : r < d) (hd : d ≤ 31) (p q : Int32) (a : Nat → Int32) (post : Int32 → SY → Prop) (hp : post (nI (r * 10 / d)) (nI (r * 10 % d), nI d, p, q, a)) : wY_digit_63 post (nI r) (nI d) p q a := by
  have hne : ¬ nI d = 0 := nI_ne0 (by omega) (by omega)
  have hq : nI (r * 10) / nI d = nI (r * 10 / d) := pk_div (by omega) (by omega) (by omega)
  unfold wY_digit_63
  refine nm_r (rd_m10 r) ⟨hne, nm_r (pk_rem (by omega) (by omega) (by omega)) ⟨hne, ?_⟩⟩
  rw [hq]
  exact hp
theorem i_vc_digit {k : Nat} {u : SX} {v : SY} (I : i_Rel k u v) (hk : k + 3 ≤ 1536) : wpX_digit (fun r u' => wpY_digit (fun r' v' => r' = r ∧ i_Rel (k + 3) u' v') v) u := by
  obtain ⟨r, d, p, q, a, hr, hd, rfl, rfl⟩ := I
  have hi : vp_in (nI r) 32 := vp_in_nI (by omega) (by omega)
  have fin : ∀ (p' q' : Int32) (b : Nat → Int32), i_Rel (k + 3) (nI (r * 10 % d), nI d, p', q', b) (nI (r * 10 % d), nI d, p', q', b) := fun p' q' b => ⟨r * 10 % d, d, p', q', b, Nat.mod_lt _ (by omega), hd, rfl, rfl⟩
  unfold wpX_digit wpY_digit
  dsimp only
  by_cases hq : q = 0
  · by_cases hs : a (nI r).toNatClampNeg = 0
    · exact br_t hq ⟨hi, nm_e (br_t hs (nm_e ⟨hi, nm_e (rd_X hr hd _ _ _ _ (br_t hq ⟨hi, br_t hs (nm_e ⟨hi, nm_e (rd_Y hr hd _ _ _ _ ⟨rfl, fin _ _ _⟩)⟩)⟩))⟩))⟩
    · exact br_t hq ⟨hi, nm_e (br_f hs (nm_e (rd_X hr hd _ _ _ _ (br_t hq ⟨hi, br_f hs ⟨hi, nm_e (rd_Y hr hd _ _ _ _ ⟨rfl, fin _ _ _⟩)⟩⟩))))⟩
  · exact br_f hq (rd_X hr hd _ _ _ _ (br_f hq (rd_Y hr hd _ _ _ _ ⟨rfl, fin _ _ _⟩)))
theorem i_vc_period {k : Nat} {u : SX} {v : SY} (I : i_Rel k u v) (hk : k + 3 ≤ 1536) : wpX_period (fun r => wpY_period (fun r' => r' = r ∧ i_Rel (k + 3) u v) v) u := by
  obtain ⟨r, d, p, q, a, hr, hd, rfl, rfl⟩ := I
  exact ⟨rfl, r, d, p, q, a, hr, hd, rfl, rfl⟩
theorem i_vc_remainder {k : Nat} {u : SX} {v : SY} (I : i_Rel k u v) (hk : k + 3 ≤ 1536) : wpX_remainder (fun r => wpY_remainder (fun r' => r' = r ∧ i_Rel (k + 3) u v) v) u := by
  obtain ⟨r, d, p, q, a, hr, hd, rfl, rfl⟩ := I
  exact ⟨rfl, r, d, p, q, a, hr, hd, rfl, rfl⟩
end

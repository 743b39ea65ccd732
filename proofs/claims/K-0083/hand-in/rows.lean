section
/-! rows pasted from kit/rows (PURE-ROWS): pk_sub, pk_mul, pk_div, pk_rem -/
theorem pk_sub {a b : Nat} (h : b ≤ a) : nI a - nI b = nI (a - b) := by
  obtain ⟨c, rfl⟩ : ∃ c, a = c + b := ⟨a - b, by omega⟩
  rw [← nI_add, Int32.add_sub_cancel, Nat.add_sub_cancel]
theorem pk_mul (a b : Nat) : nI a * nI b = nI (a * b) := (Int32.ofNat_mul a b).symm
theorem pk_div {a d : Nat} (ha : a < 2 ^ 31) (h0 : 0 < d) (hd : d < 2 ^ 31) : nI a / nI d = nI (a / d) := by
  apply Int32.toInt_inj.mp
  rw [lg_idiv_nonneg (by rw [nI_toInt ha]; omega) (by rw [nI_toInt hd]; omega), nI_toInt ha, nI_toInt hd, nI_toInt (Nat.lt_of_le_of_lt (Nat.div_le_self a d) ha)]
  first | rfl | exact (Int.natCast_ediv _ _).symm
theorem pk_rem {a d : Nat} (ha : a < 2 ^ 31) (h0 : 0 < d) (hd : d < 2 ^ 31) : nI a - nI a / nI d * nI d = nI (a % d) := by
  rw [pk_div ha h0 hd, pk_mul, pk_sub (Nat.div_mul_le_self a d)]
  exact congrArg nI (by have := Nat.div_add_mod' a d; omega)
/-! the plain law: an int that is at least 1 is j + 1; quotient and remainder by 33, of j and of j + 1 -/
theorem sk_33 : nI 33 = 33 := by decide +kernel
theorem sk_of {x : Int32} (h : 1 ≤ x) : ∃ j : Nat, j + 1 < 2 ^ 31 ∧ x = nI (j + 1) := by
  have h1 : (1 : Int32).toInt = 1 := by decide
  have h0 : (0 : Int32).toInt = 0 := by decide
  have g : 1 ≤ x.toInt := by rw [← h1]; exact Int32.le_iff_toInt_le.mp h
  have n : ¬ x < 0 := by rw [Int32.lt_iff_toInt_lt, h0]; omega
  obtain ⟨i, hi, rfl⟩ := nI_of n
  rw [nI_toInt hi] at g
  obtain ⟨j, rfl⟩ : ∃ j, i = j + 1 := ⟨i - 1, by omega⟩
  exact ⟨j, hi, rfl⟩
/-- X's escapes -/
theorem sk_xEsc {j : Nat} (hj : j + 1 < 2 ^ 31) : (nI (j + 1) - 1) / 33 = nI (j / 33) := by
  rw [nI_pred, ← sk_33, pk_div (by omega) (by decide) (by decide)]
/-- X's rest -/
theorem sk_xRest {j : Nat} (hj : j + 1 < 2 ^ 31) : ((nI (j + 1) - 1) - (nI (j + 1) - 1) / 33 * 33) + 1 = nI (j % 33 + 1) := by
  rw [nI_pred, ← sk_33, pk_rem (by omega) (by decide) (by decide), nI_1]
/-- Y's remainder -/
theorem sk_yRem {j : Nat} (hj : j + 1 < 2 ^ 31) : nI (j + 1) - nI (j + 1) / 33 * 33 = nI ((j + 1) % 33) := by
  rw [← sk_33, pk_rem hj (by decide) (by decide)]
/-- Y's escapes, at Y's rest -/
theorem sk_yEsc {j : Nat} (hj : j + 1 < 2 ^ 31) : (nI (j + 1) - nI (j % 33 + 1)) / 33 = nI (j / 33) := by
  have h := Nat.div_add_mod j 33
  have e : j + 1 - (j % 33 + 1) = j / 33 * 33 := by omega
  rw [pk_sub (by omega), e, ← sk_33, pk_div (by omega) (by decide) (by decide), Nat.mul_div_cancel _ (by decide)]
/-- Y's rest, at any post: it answers j % 33 + 1 -/
theorem sk_yRest {post : Int32 → Prop} (v : SY) {j : Nat} (hj : j + 1 < 2 ^ 31) (h1 : 1 ≤ nI (j + 1)) (h : post (nI (j % 33 + 1))) : wpY_rest post v (nI (j + 1)) := by
  refine br_t h1 ⟨by decide, nm_r (sk_yRem hj) (br_c (fun z => ?_) (fun z => ?_))⟩
  · have z' : (j + 1) % 33 = 0 := (nI_eq (by omega) (by decide)).mp (z.trans nI_0.symm)
    have e : j % 33 + 1 = 33 := by omega
    rw [e, sk_33] at h
    exact h
  · have z' : ¬ (j + 1) % 33 = 0 := fun t => z (by rw [t, nI_0])
    have e : j % 33 + 1 = (j + 1) % 33 := by omega
    rw [e] at h
    exact h
end
section
/-- the two states are the same: last and run -/
def i_Rel (_ : Nat) (u : SX) (v : SY) : Prop := u = v
theorem i_up {k : Nat} {u : SX} {v : SY} (h : i_Rel k u v) : i_Rel (k + 2) u v := h
theorem i_vc0 : wpX_init (fun u => wpY_init (fun v => i_Rel 0 u v)) := rfl
theorem i_vc_skip {k : Nat} {u : SX} {v : SY} (I : i_Rel k u v) (hk : k + 2 ≤ 1024) : wpX_skip (fun r u' => wpY_skip (fun r' v' => r' = r ∧ i_Rel (k + 2) u' v') v) u := by
  cases I
  exact nm_e (nm_e ⟨rfl, rfl⟩)
theorem i_vc_coded {k : Nat} {u : SX} {v : SY} (I : i_Rel k u v) (hk : k + 2 ≤ 1024) (v1 : Int32) : wpX_coded (fun r u' => wpY_coded (fun r' v' => r' = r ∧ i_Rel (k + 2) u' v') v v1) u v1 := by
  cases I
  by_cases h0 : v1 < 0
  · exact br_t h0 (br_t h0 ⟨rfl, rfl⟩)
  · by_cases h1 : v1 ≤ 16777215
    · by_cases h2 : u.1 < v1
      · exact br_f h0 (br_t h1 (br_t h2 (nm_e (br_f h0 (br_t h1 (br_t h2 (nm_e ⟨rfl, rfl⟩)))))))
      · exact br_f h0 (br_t h1 (br_f h2 (br_f h0 (br_t h1 (br_f h2 ⟨rfl, rfl⟩)))))
    · exact br_f h0 (br_f h1 (br_f h0 (br_f h1 ⟨rfl, rfl⟩)))
theorem i_vc_escapes {k : Nat} {u : SX} {v : SY} (I : i_Rel k u v) (hk : k + 2 ≤ 1024) (v1 : Int32) : wpX_escapes (fun r => wpY_escapes (fun r' => r' = r ∧ i_Rel (k + 2) u v) v v1) u v1 := by
  cases I
  by_cases h1 : 1 ≤ v1
  · obtain ⟨j, hj, rfl⟩ := sk_of h1
    refine br_t h1 ⟨by decide, br_t h1 ?_⟩
    exact sk_yRest _ hj h1 ⟨by decide, (sk_yEsc hj).trans (sk_xEsc hj).symm, rfl⟩
  · exact br_f h1 (br_f h1 ⟨rfl, rfl⟩)
theorem i_vc_rest {k : Nat} {u : SX} {v : SY} (I : i_Rel k u v) (hk : k + 2 ≤ 1024) (v1 : Int32) : wpX_rest (fun r => wpY_rest (fun r' => r' = r ∧ i_Rel (k + 2) u v) v v1) u v1 := by
  cases I
  by_cases h1 : 1 ≤ v1
  · obtain ⟨j, hj, rfl⟩ := sk_of h1
    refine br_t h1 ⟨by decide, ?_⟩
    exact sk_yRest _ hj h1 ⟨(sk_xRest hj).symm, rfl⟩
  · exact br_f h1 (br_f h1 ⟨rfl, rfl⟩)
theorem i_vc_run {k : Nat} {u : SX} {v : SY} (I : i_Rel k u v) (hk : k + 2 ≤ 1024) : wpX_run (fun r => wpY_run (fun r' => r' = r ∧ i_Rel (k + 2) u v) v) u := by
  cases I
  exact ⟨rfl, rfl⟩
theorem i_vc_last {k : Nat} {u : SX} {v : SY} (I : i_Rel k u v) (hk : k + 2 ≤ 1024) : wpX_last (fun r => wpY_last (fun r' => r' = r ∧ i_Rel (k + 2) u v) v) u := by
  cases I
  exact ⟨rfl, rfl⟩
end

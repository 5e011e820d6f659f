section
/-- X's find loop and Y's scan in find's mode, from the same row on: one answer for both, whatever is asked of it -/
theorem ht_find (p q : Int32) (a b h t : Nat → Int32) (c : Nat) (hc : c ≤ 4) : ∀ d j : Nat, j + d = c → ∃ r : Int32,
    (∀ post : Int32 → Prop, post r → wX_find_2 post p q (nI c) a b h t (d + 1) (nI j)) ∧
    (∀ (post : Int32 → Prop) (x : Int32), post r → wY_scan_6 post p q 0 (nI c) a b h t (d + 1) x (nI j)) := by
  intro d
  induction d with
  | zero =>
    intro j hj
    have e : nI c ≤ nI j := nI_le (by omega) (by omega)
    exact ⟨-1, fun _ hp => br_t e hp, fun _ _ hp => br_t e (br_t rfl hp)⟩
  | succ d ih =>
    intro j hj
    have e : ¬ nI c ≤ nI j := nI_ge (by omega) (by omega)
    have hi : vp_in (nI j) 4 := vp_in_nI (by omega) (by decide)
    obtain ⟨r, hX, hY⟩ := ih (j + 1) (by omega)
    by_cases z1 : p < a (nI j).toNatClampNeg
    · exact ⟨r, fun post hp => br_f e ⟨hi, nm_e ⟨hi, nm_e (br_t z1 (nm_r (nI_1 j) (hX post hp)))⟩⟩,
        fun post x hp => br_f e ⟨hi, br_t z1 (nm_r (nI_1 j) (hY post x hp))⟩⟩
    · by_cases z2 : b (nI j).toNatClampNeg ≤ p
      · exact ⟨r, fun post hp => br_f e ⟨hi, nm_e ⟨hi, nm_e (br_f z1 (br_t z2 (nm_r (nI_1 j) (hX post hp))))⟩⟩,
          fun post x hp => br_f e ⟨hi, br_f z1 ⟨hi, br_t z2 (nm_r (nI_1 j) (hY post x hp))⟩⟩⟩
      · by_cases z3 : t (nI j).toNatClampNeg &&& 65535 = 0
        · exact ⟨h (nI j).toNatClampNeg,
            fun post hp => br_f e ⟨hi, nm_e ⟨hi, nm_e (br_f z1 (br_f z2 ⟨hi, nm_e (br_t z3 ⟨hi, hp⟩)⟩))⟩⟩,
            fun post x hp => br_f e ⟨hi, br_f z1 ⟨hi, br_f z2 ⟨hi, nm_e (br_t rfl (br_t z3 ⟨hi, hp⟩))⟩⟩⟩⟩
        · by_cases z4 : t (nI j).toNatClampNeg &&& 65535 = q
          · exact ⟨h (nI j).toNatClampNeg,
              fun post hp => br_f e ⟨hi, nm_e ⟨hi, nm_e (br_f z1 (br_f z2 ⟨hi, nm_e (br_f z3 (br_t z4 ⟨hi, hp⟩))⟩))⟩⟩,
              fun post x hp => br_f e ⟨hi, br_f z1 ⟨hi, br_f z2 ⟨hi, nm_e (br_t rfl (br_f z3 (br_t z4 ⟨hi, hp⟩)))⟩⟩⟩⟩
          · exact ⟨r,
              fun post hp => br_f e ⟨hi, nm_e ⟨hi, nm_e (br_f z1 (br_f z2 ⟨hi, nm_e (br_f z3 (br_f z4 (nm_r (nI_1 j) (hX post hp))))⟩))⟩⟩,
              fun post x hp => br_f e ⟨hi, br_f z1 ⟨hi, br_f z2 ⟨hi, nm_e (br_t rfl (br_f z3 (br_f z4 (nm_r (nI_1 j) (hY post x hp)))))⟩⟩⟩⟩

/-- X's covers loop and Y's scan in covers' mode, from the same row and the same hits on -/
theorem ht_cov (p q : Int32) (a b h t : Nat → Int32) (c : Nat) (hc : c ≤ 4) : ∀ (d j : Nat) (x : Int32), j + d = c → ∃ r : Int32,
    (∀ post : Int32 → Prop, post r → wX_covers_4 post p (nI c) a b h t (d + 1) x (nI j)) ∧
    (∀ post : Int32 → Prop, post r → wY_scan_6 post p q 1 (nI c) a b h t (d + 1) x (nI j)) := by
  have n1 : ¬ (1 : Int32) = 0 := by decide
  intro d
  induction d with
  | zero =>
    intro j x hj
    have e : nI c ≤ nI j := nI_le (by omega) (by omega)
    exact ⟨x, fun _ hp => br_t e hp, fun _ hp => br_t e (br_f n1 hp)⟩
  | succ d ih =>
    intro j x hj
    have e : ¬ nI c ≤ nI j := nI_ge (by omega) (by omega)
    have hi : vp_in (nI j) 4 := vp_in_nI (by omega) (by decide)
    by_cases z1 : p < a (nI j).toNatClampNeg
    · obtain ⟨r, hX, hY⟩ := ih (j + 1) x (by omega)
      exact ⟨r, fun post hp => br_f e ⟨hi, nm_e ⟨hi, nm_e (br_t z1 (nm_r (nI_1 j) (hX post hp)))⟩⟩,
        fun post hp => br_f e ⟨hi, br_t z1 (nm_r (nI_1 j) (hY post hp))⟩⟩
    · by_cases z2 : b (nI j).toNatClampNeg ≤ p
      · obtain ⟨r, hX, hY⟩ := ih (j + 1) x (by omega)
        exact ⟨r, fun post hp => br_f e ⟨hi, nm_e ⟨hi, nm_e (br_f z1 (br_t z2 (nm_r (nI_1 j) (hX post hp))))⟩⟩,
          fun post hp => br_f e ⟨hi, br_f z1 ⟨hi, br_t z2 (nm_r (nI_1 j) (hY post hp))⟩⟩⟩
      · obtain ⟨r, hX, hY⟩ := ih (j + 1) (x + 1) (by omega)
        exact ⟨r,
          fun post hp => br_f e ⟨hi, nm_e ⟨hi, nm_e (br_f z1 (br_f z2 (nm_e (nm_r (nI_1 j) (hX post hp)))))⟩⟩,
          fun post hp => br_f e ⟨hi, br_f z1 ⟨hi, br_f z2 ⟨hi, nm_e (br_f n1 (nm_e (nm_r (nI_1 j) (hY post hp))))⟩⟩⟩⟩
end
section
/-- the two tables hold the same rows, and at most four of them -/
def i_Rel (_ : Nat) (u : SX) (v : SY) : Prop := u = v ∧ ∃ c : Nat, c ≤ 4 ∧ u.1 = nI c
theorem i_up {k : Nat} {u : SX} {v : SY} (h : i_Rel k u v) : i_Rel (k + 5) u v := h
theorem i_vc0 : wpX_init (fun u => wpY_init (fun v => i_Rel 0 u v)) := ⟨rfl, 0, by decide, nI_0.symm⟩
theorem i_vc_add {k : Nat} {u : SX} {v : SY} (I : i_Rel k u v) (hk : k + 5 ≤ 2560) (v1 : Int32) (v2 : Int32) (v3 : Int32) (v4 : Int32) : wpX_add (fun r u' => wpY_add (fun r' v' => r' = r ∧ i_Rel (k + 5) u' v') v v1 v2 v3 v4) u v1 v2 v3 v4 := by
  obtain ⟨rfl, c, hc, h1⟩ := I
  obtain ⟨f, a, b, h, t⟩ := u
  cases (h1 : f = nI c)
  have J : i_Rel (k + 5) (nI c, a, b, h, t) (nI c, a, b, h, t) := ⟨rfl, c, hc, rfl⟩
  by_cases z1 : v1 < 0
  · exact br_t z1 (br_t z1 ⟨rfl, J⟩)
  by_cases z2 : v2 ≤ v1
  · exact br_f z1 (br_t z2 (br_f z1 (br_t z2 ⟨rfl, J⟩)))
  by_cases z3 : 65535 < v2
  · exact br_f z1 (br_f z2 (br_t z3 (br_f z1 (br_f z2 (br_t z3 ⟨rfl, J⟩)))))
  by_cases z4 : v3 < 0
  · exact br_f z1 (br_f z2 (br_f z3 (br_t z4 (br_f z1 (br_f z2 (br_f z3 (br_t z4 ⟨rfl, J⟩)))))))
  by_cases z5 : 65535 < v3
  · exact br_f z1 (br_f z2 (br_f z3 (br_f z4 (br_t z5 (br_f z1 (br_f z2 (br_f z3 (br_f z4 (br_t z5 ⟨rfl, J⟩)))))))))
  by_cases z6 : v4 < 0
  · exact br_f z1 (br_f z2 (br_f z3 (br_f z4 (br_f z5 (br_t z6 (br_f z1 (br_f z2 (br_f z3 (br_f z4 (br_f z5 (br_t z6 ⟨rfl, J⟩)))))))))))
  by_cases z7 : v4 ≤ 65535
  · by_cases z8 : c < 4
    · have hX : nI c < 4 := nI_lt (b := 4) z8 (by decide)
      have hY : ¬ nI c = 4 := fun e => by
        have e' := (nI_eq (a := c) (b := 4) (by omega) (by decide)).mp e
        omega
      have hi : vp_in (nI c) 4 := vp_in_nI z8 (by decide)
      refine br_f z1 (br_f z2 (br_f z3 (br_f z4 (br_f z5 (br_f z6 (br_t z7 (br_t hX ⟨hi, fun a1 e1 => ⟨hi, fun a2 e2 => ⟨hi, fun a3 e3 => ⟨hi, fun a4 e4 n en => ?_⟩⟩⟩⟩)))))))
      refine br_f z1 (br_f z2 (br_f z3 (br_f z4 (br_f z5 (br_f z6 (br_t z7 (br_f hY ⟨hi, fun b1 g1 => ⟨hi, fun b2 g2 => ⟨hi, fun b3 g3 => ⟨hi, fun b4 g4 m em => ?_⟩⟩⟩⟩)))))))
      subst e1 e2 e3 e4 en g1 g2 g3 g4 em
      exact ⟨rfl, rfl, c + 1, z8, nI_1 c⟩
    · have hX : ¬ nI c < 4 := nI_nlt (b := 4) (by omega) (by omega)
      have hY : nI c = 4 := (nI_eq (a := c) (b := 4) (by omega) (by decide)).mpr (by omega)
      exact br_f z1 (br_f z2 (br_f z3 (br_f z4 (br_f z5 (br_f z6 (br_t z7 (br_f hX (br_f z1 (br_f z2 (br_f z3 (br_f z4 (br_f z5 (br_f z6 (br_t z7 (br_t hY ⟨rfl, J⟩)))))))))))))))
  · exact br_f z1 (br_f z2 (br_f z3 (br_f z4 (br_f z5 (br_f z6 (br_f z7 (br_f z1 (br_f z2 (br_f z3 (br_f z4 (br_f z5 (br_f z6 (br_f z7 ⟨rfl, J⟩)))))))))))))
theorem i_vc_find {k : Nat} {u : SX} {v : SY} (I : i_Rel k u v) (hk : k + 5 ≤ 2560) (v1 : Int32) (v2 : Int32) : wpX_find (fun r => wpY_find (fun r' => r' = r ∧ i_Rel (k + 5) u v) v v1 v2) u v1 v2 := by
  obtain ⟨rfl, c, hc, h1⟩ := I
  obtain ⟨f, a, b, h, t⟩ := u
  cases (h1 : f = nI c)
  have J : i_Rel (k + 5) (nI c, a, b, h, t) (nI c, a, b, h, t) := ⟨rfl, c, hc, rfl⟩
  obtain ⟨r, hX, hY⟩ := ht_find v1 v2 a b h t c hc c 0 (by omega)
  rw [nI_0] at hX hY
  unfold wpX_find wpY_find wpY_scan
  dsimp only
  exact ⟨_, hX _ ⟨_, hY _ 0 ⟨rfl, J⟩⟩⟩
theorem i_vc_covers {k : Nat} {u : SX} {v : SY} (I : i_Rel k u v) (hk : k + 5 ≤ 2560) (v1 : Int32) : wpX_covers (fun r => wpY_covers (fun r' => r' = r ∧ i_Rel (k + 5) u v) v v1) u v1 := by
  obtain ⟨rfl, c, hc, h1⟩ := I
  obtain ⟨f, a, b, h, t⟩ := u
  cases (h1 : f = nI c)
  have J : i_Rel (k + 5) (nI c, a, b, h, t) (nI c, a, b, h, t) := ⟨rfl, c, hc, rfl⟩
  obtain ⟨r, hX, hY⟩ := ht_cov v1 0 a b h t c hc c 0 0 (by omega)
  rw [nI_0] at hX hY
  unfold wpX_covers wpY_covers wpY_scan
  dsimp only
  exact ⟨_, hX _ ⟨_, hY _ ⟨rfl, J⟩⟩⟩
end

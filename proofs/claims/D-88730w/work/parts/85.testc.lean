set_option maxRecDepth 100000
/-- what is alike after a good test: flag, field, sign, number -/
def TestOk (R z A : Nat) (x3 : Int32) (w2 v2 w' v' : Wd) : Prop := w'.2.1 (103 + 10 * R) 2 = nI (z + 1) ∧ w'.2.1 (107 + 10 * R) z = w2.2.1 (107 + 10 * R) z ∧ v'.2.1 35 A = (if x3 = 0 then 0 else 1) ∧ (∃ f : Nat, f ≤ 6 ∧ v'.2.1 35 (A + 1) = nI f ∧ w'.2.1 (104 + 10 * R) z = nI f) ∧ w'.2.1 (105 + 10 * R) z = v'.2.1 35 (A + 2) ∧ w'.2.1 (106 + 10 * R) z = v'.2.1 35 (A + 3) ∧ ∀ j, j < A ∨ A + 4 ≤ j → v'.2.1 35 j = v2.2.1 35 j
theorem testM_put {A f : Nat} {v : Wd} {x3 x8 y : Int32} (hA : A + 3 < 120) : ∃ v', (jn (fun z18 => rd (inb (nI A) 120) (stG v 35 (nI A).toNatClampNeg z18) fun w20 => rd (inb (nI A + 1) 120) (stG w20 35 (nI A + 1).toNatClampNeg (nI (8 + f) - 8)) fun w21 => rd (inb (nI A + 2) 120) (stG w21 35 (nI A + 2).toNatClampNeg x8) fun w22 => rd (inb (nI A + 3) 120) (stG w22 35 (nI A + 3).toNatClampNeg y) fun w23 => some ((1 : Int32), w23)) fun J19 => if x3 = 0 then J19 0 else J19 1) = some (1, v') ∧ Ag [35] [] v v' ∧ v'.2.1 35 A = (if x3 = 0 then 0 else 1) ∧ v'.2.1 35 (A + 1) = nI f ∧ v'.2.1 35 (A + 2) = x8 ∧ v'.2.1 35 (A + 3) = y ∧ ∀ j, j < A ∨ A + 4 ≤ j → v'.2.1 35 j = v.2.1 35 j := by
  have hf : nI (8 + f) - 8 = nI f := by
    rw [show (8 : Int32) = nI 8 from rfl, nIsub (by omega)]; congr 1; omega
  rw [hf, nI_1, show nI A + 2 = nI (A + 2) from nI_add _ 2, show nI A + 3 = nI (A + 3) from nI_add _ 3, inb_nI (show A < 120 by omega) (by decide), clN (show A < 1073741824 by omega), inb_nI (show A + 1 < 120 by omega) (by decide), clN (show A + 1 < 1073741824 by omega), inb_nI (show A + 2 < 120 by omega) (by decide), clN (show A + 2 < 1073741824 by omega), inb_nI (show A + 3 < 120 by omega) (by decide), clN (show A + 3 < 1073741824 by omega)]
  simp only [rd_t, jn_d]
  have go : ∀ b : Int32, ∃ v', some ((1 : Int32), stG (stG (stG (stG v 35 A b) 35 (A + 1) (nI f)) 35 (A + 2) x8) 35 (A + 3) y) = some (1, v') ∧ Ag [35] [] v v' ∧ v'.2.1 35 A = b ∧ v'.2.1 35 (A + 1) = nI f ∧ v'.2.1 35 (A + 2) = x8 ∧ v'.2.1 35 (A + 3) = y ∧ ∀ j, j < A ∨ A + 4 ≤ j → v'.2.1 35 j = v.2.1 35 j := by
    intro b
    refine ⟨_, rfl, (((Ag.st (by decide) (by decide)).trans (Ag.st (by decide) (by decide))).trans (Ag.st (by decide) (by decide))).trans (Ag.st (by decide) (by decide)), ?_, ?_, ?_, ?_, fun j hj => ?_⟩
    · rw [stG_eq, pk_un (by omega), stG_eq, pk_un (by omega), stG_eq, pk_un (by omega), stG_eq, pk_us]
    · rw [stG_eq, pk_un (by omega), stG_eq, pk_un (by omega), stG_eq, pk_us]
    · rw [stG_eq, pk_un (by omega), stG_eq, pk_us]
    · rw [stG_eq, pk_us]
    · rw [stG_eq, pk_un (by omega), stG_eq, pk_un (by omega), stG_eq, pk_un (by omega), stG_eq, pk_un (by omega)]
  by_cases h : x3 = 0
  · rw [if_pos h, if_pos h]; exact go 0
  · rw [if_neg h, if_neg h]; exact go 1

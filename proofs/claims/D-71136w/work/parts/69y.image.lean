/-! pure: image, restore, type -/
set_option maxRecDepth 100000
theorem PC_of {p : Nat → BT} {Ps : List AB} (h8 : Ps.length ≤ 8) (h : ∀ j, j < Ps.length → ∀ Y, Ps[j]? = some Y → YC (p j) Y) : PC p Ps :=
  ⟨h8, fun k Y hk => h k (List.getElem?_eq_some_iff.mp hk).1 Y hk⟩
theorem pc_image {b kb : BT} {B : AB} {Ps : List AB} {past kp : Nat → BT} {km ik : Int32} (h : CR b B) (hI : InvP B Ps) (hp : PC past Ps) {Q : Int32 → Int32 × Int32 × BT × (Nat → BT) → Prop} (hQ : ∀ kb' kp', CR kb' B → PC kp' Ps → Q 1 (nI Ps.length, 1, kb', kp')) : wp_X0_image (nI Ps.length) km ik b past kb kp Q := by
  have h8 := hp.1
  have hsz := hI.sz
  unfold wp_X0_image
  refine pc_takeFromI h hI.1 (fun kb' hkb => ?_)
  refine loop_0 (σ := Nat → BT) (fun n i t => wp_X0_image_13 (nI Ps.length) b past Q n km ik kb' t (nI i)) (fun k t => ∀ j, j < k → ∀ Y, Ps[j]? = some Y → YC (t j) Y) Ps.length kp (fun j hj => by omega) ?_ ?_
  · intro n t ht
    unfold wp_X0_image_13
    exact ⟨fun _ => hQ kb' t hkb (PC_of h8 ht), fun c => by simp (disch := omega) only [il0, il1, il2, il3, il4, il5, il6, il7, il8, il9, il10, il15, il16, il22, il24, il30, il31, il40, il41, il60, il70, il146, il161, il9999, pk_mul, nI_add, pk_sub, nI_clamp, nI_leI, nI_ltI, nI_eq] at c; omega⟩
  · intro n k t hk ht ih
    unfold wp_X0_image_13
    refine ⟨fun c => by simp (disch := omega) only [il0, il1, il2, il3, il4, il5, il6, il7, il8, il9, il10, il15, il16, il22, il24, il30, il31, il40, il41, il60, il70, il146, il161, il9999, pk_mul, nI_add, pk_sub, nI_clamp, nI_leI, nI_ltI, nI_eq] at c; omega, fun _ => ⟨vp_in_nI (by omega) (by omega), fun e => ?_, fun e => ?_, fun e => ?_, fun e => ?_, fun e => ?_, fun e => ?_, fun e => ?_, fun e => ?_⟩⟩
    · simp (disch := omega) only [il0, il1, il2, il3, il4, il5, il6, il7, il8, il9, il10, il15, il16, il22, il24, il30, il31, il40, il41, il60, il70, il146, il161, il9999, pk_mul, nI_add, pk_sub, nI_clamp, nI_leI, nI_ltI, nI_eq] at e
      subst e
      obtain ⟨Y, hY⟩ : ∃ Y, Ps[0]? = some Y := ⟨_, List.getElem?_eq_getElem hk⟩
      have hYs := hsz Y (List.mem_of_getElem? hY)
      refine pc_takeYear (hp.2 0 Y hY) hYs.1 hYs.2 (fun u hu _ _ _ => ih (b8 u (t 1) (t 2) (t 3) (t 4) (t 5) (t 6) (t 7)) (fun j hj Z hZ => ?_))
      by_cases ej : j = 0
      · subst ej
        cases hY.symm.trans hZ
        exact hu
      · have hh := ht j (by omega) Z hZ
        have hc : j = 0 ∨ j = 1 ∨ j = 2 ∨ j = 3 ∨ j = 4 ∨ j = 5 ∨ j = 6 ∨ j = 7 := by omega
        rcases hc with rfl | rfl | rfl | rfl | rfl | rfl | rfl | rfl <;> first | exact hh | exact absurd rfl ej
    · simp (disch := omega) only [il0, il1, il2, il3, il4, il5, il6, il7, il8, il9, il10, il15, il16, il22, il24, il30, il31, il40, il41, il60, il70, il146, il161, il9999, pk_mul, nI_add, pk_sub, nI_clamp, nI_leI, nI_ltI, nI_eq] at e
      subst e
      obtain ⟨Y, hY⟩ : ∃ Y, Ps[1]? = some Y := ⟨_, List.getElem?_eq_getElem hk⟩
      have hYs := hsz Y (List.mem_of_getElem? hY)
      refine pc_takeYear (hp.2 1 Y hY) hYs.1 hYs.2 (fun u hu _ _ _ => ih (b8 (t 0) u (t 2) (t 3) (t 4) (t 5) (t 6) (t 7)) (fun j hj Z hZ => ?_))
      by_cases ej : j = 1
      · subst ej
        cases hY.symm.trans hZ
        exact hu
      · have hh := ht j (by omega) Z hZ
        have hc : j = 0 ∨ j = 1 ∨ j = 2 ∨ j = 3 ∨ j = 4 ∨ j = 5 ∨ j = 6 ∨ j = 7 := by omega
        rcases hc with rfl | rfl | rfl | rfl | rfl | rfl | rfl | rfl <;> first | exact hh | exact absurd rfl ej
    · simp (disch := omega) only [il0, il1, il2, il3, il4, il5, il6, il7, il8, il9, il10, il15, il16, il22, il24, il30, il31, il40, il41, il60, il70, il146, il161, il9999, pk_mul, nI_add, pk_sub, nI_clamp, nI_leI, nI_ltI, nI_eq] at e
      subst e
      obtain ⟨Y, hY⟩ : ∃ Y, Ps[2]? = some Y := ⟨_, List.getElem?_eq_getElem hk⟩
      have hYs := hsz Y (List.mem_of_getElem? hY)
      refine pc_takeYear (hp.2 2 Y hY) hYs.1 hYs.2 (fun u hu _ _ _ => ih (b8 (t 0) (t 1) u (t 3) (t 4) (t 5) (t 6) (t 7)) (fun j hj Z hZ => ?_))
      by_cases ej : j = 2
      · subst ej
        cases hY.symm.trans hZ
        exact hu
      · have hh := ht j (by omega) Z hZ
        have hc : j = 0 ∨ j = 1 ∨ j = 2 ∨ j = 3 ∨ j = 4 ∨ j = 5 ∨ j = 6 ∨ j = 7 := by omega
        rcases hc with rfl | rfl | rfl | rfl | rfl | rfl | rfl | rfl <;> first | exact hh | exact absurd rfl ej
    · simp (disch := omega) only [il0, il1, il2, il3, il4, il5, il6, il7, il8, il9, il10, il15, il16, il22, il24, il30, il31, il40, il41, il60, il70, il146, il161, il9999, pk_mul, nI_add, pk_sub, nI_clamp, nI_leI, nI_ltI, nI_eq] at e
      subst e
      obtain ⟨Y, hY⟩ : ∃ Y, Ps[3]? = some Y := ⟨_, List.getElem?_eq_getElem hk⟩
      have hYs := hsz Y (List.mem_of_getElem? hY)
      refine pc_takeYear (hp.2 3 Y hY) hYs.1 hYs.2 (fun u hu _ _ _ => ih (b8 (t 0) (t 1) (t 2) u (t 4) (t 5) (t 6) (t 7)) (fun j hj Z hZ => ?_))
      by_cases ej : j = 3
      · subst ej
        cases hY.symm.trans hZ
        exact hu
      · have hh := ht j (by omega) Z hZ
        have hc : j = 0 ∨ j = 1 ∨ j = 2 ∨ j = 3 ∨ j = 4 ∨ j = 5 ∨ j = 6 ∨ j = 7 := by omega
        rcases hc with rfl | rfl | rfl | rfl | rfl | rfl | rfl | rfl <;> first | exact hh | exact absurd rfl ej
    · simp (disch := omega) only [il0, il1, il2, il3, il4, il5, il6, il7, il8, il9, il10, il15, il16, il22, il24, il30, il31, il40, il41, il60, il70, il146, il161, il9999, pk_mul, nI_add, pk_sub, nI_clamp, nI_leI, nI_ltI, nI_eq] at e
      subst e
      obtain ⟨Y, hY⟩ : ∃ Y, Ps[4]? = some Y := ⟨_, List.getElem?_eq_getElem hk⟩
      have hYs := hsz Y (List.mem_of_getElem? hY)
      refine pc_takeYear (hp.2 4 Y hY) hYs.1 hYs.2 (fun u hu _ _ _ => ih (b8 (t 0) (t 1) (t 2) (t 3) u (t 5) (t 6) (t 7)) (fun j hj Z hZ => ?_))
      by_cases ej : j = 4
      · subst ej
        cases hY.symm.trans hZ
        exact hu
      · have hh := ht j (by omega) Z hZ
        have hc : j = 0 ∨ j = 1 ∨ j = 2 ∨ j = 3 ∨ j = 4 ∨ j = 5 ∨ j = 6 ∨ j = 7 := by omega
        rcases hc with rfl | rfl | rfl | rfl | rfl | rfl | rfl | rfl <;> first | exact hh | exact absurd rfl ej
    · simp (disch := omega) only [il0, il1, il2, il3, il4, il5, il6, il7, il8, il9, il10, il15, il16, il22, il24, il30, il31, il40, il41, il60, il70, il146, il161, il9999, pk_mul, nI_add, pk_sub, nI_clamp, nI_leI, nI_ltI, nI_eq] at e
      subst e
      obtain ⟨Y, hY⟩ : ∃ Y, Ps[5]? = some Y := ⟨_, List.getElem?_eq_getElem hk⟩
      have hYs := hsz Y (List.mem_of_getElem? hY)
      refine pc_takeYear (hp.2 5 Y hY) hYs.1 hYs.2 (fun u hu _ _ _ => ih (b8 (t 0) (t 1) (t 2) (t 3) (t 4) u (t 6) (t 7)) (fun j hj Z hZ => ?_))
      by_cases ej : j = 5
      · subst ej
        cases hY.symm.trans hZ
        exact hu
      · have hh := ht j (by omega) Z hZ
        have hc : j = 0 ∨ j = 1 ∨ j = 2 ∨ j = 3 ∨ j = 4 ∨ j = 5 ∨ j = 6 ∨ j = 7 := by omega
        rcases hc with rfl | rfl | rfl | rfl | rfl | rfl | rfl | rfl <;> first | exact hh | exact absurd rfl ej
    · simp (disch := omega) only [il0, il1, il2, il3, il4, il5, il6, il7, il8, il9, il10, il15, il16, il22, il24, il30, il31, il40, il41, il60, il70, il146, il161, il9999, pk_mul, nI_add, pk_sub, nI_clamp, nI_leI, nI_ltI, nI_eq] at e
      subst e
      obtain ⟨Y, hY⟩ : ∃ Y, Ps[6]? = some Y := ⟨_, List.getElem?_eq_getElem hk⟩
      have hYs := hsz Y (List.mem_of_getElem? hY)
      refine pc_takeYear (hp.2 6 Y hY) hYs.1 hYs.2 (fun u hu _ _ _ => ih (b8 (t 0) (t 1) (t 2) (t 3) (t 4) (t 5) u (t 7)) (fun j hj Z hZ => ?_))
      by_cases ej : j = 6
      · subst ej
        cases hY.symm.trans hZ
        exact hu
      · have hh := ht j (by omega) Z hZ
        have hc : j = 0 ∨ j = 1 ∨ j = 2 ∨ j = 3 ∨ j = 4 ∨ j = 5 ∨ j = 6 ∨ j = 7 := by omega
        rcases hc with rfl | rfl | rfl | rfl | rfl | rfl | rfl | rfl <;> first | exact hh | exact absurd rfl ej
    · simp (disch := omega) only [il0, il1, il2, il3, il4, il5, il6, il7, il8, il9, il10, il15, il16, il22, il24, il30, il31, il40, il41, il60, il70, il146, il161, il9999, pk_mul, nI_add, pk_sub, nI_clamp, nI_leI, nI_ltI, nI_eq] at e
      subst e
      obtain ⟨Y, hY⟩ : ∃ Y, Ps[7]? = some Y := ⟨_, List.getElem?_eq_getElem hk⟩
      have hYs := hsz Y (List.mem_of_getElem? hY)
      refine pc_takeYear (hp.2 7 Y hY) hYs.1 hYs.2 (fun u hu _ _ _ => ih (b8 (t 0) (t 1) (t 2) (t 3) (t 4) (t 5) (t 6) u) (fun j hj Z hZ => ?_))
      by_cases ej : j = 7
      · subst ej
        cases hY.symm.trans hZ
        exact hu
      · have hh := ht j (by omega) Z hZ
        have hc : j = 0 ∨ j = 1 ∨ j = 2 ∨ j = 3 ∨ j = 4 ∨ j = 5 ∨ j = 6 ∨ j = 7 := by omega
        rcases hc with rfl | rfl | rfl | rfl | rfl | rfl | rfl | rfl <;> first | exact hh | exact absurd rfl ej
theorem pc_restore {b kb : BT} {B KB : AB} {Ps : List AB} {past kp : Nat → BT} {um ik : Int32} (hik : ¬ ik = 0) (hkb : CR kb KB) (hI : InvP KB Ps) (hp : PC kp Ps) {Q : Int32 → Int32 × BT × (Nat → BT) → Prop} (hQ : ∀ b' p', CR b' KB → PC p' Ps → Q 1 (nI Ps.length, b', p')) : wp_X0_restore um (nI Ps.length) ik b past kb kp Q := by
  have h8 := hp.1
  have hsz := hI.sz
  unfold wp_X0_restore
  refine ⟨fun _ => pc_takeFromI hkb hI.1 (fun b' hb' => ?_), fun c => absurd c hik⟩
  refine loop_0 (σ := Nat → BT) (fun n i t => wp_X0_restore_23 (nI Ps.length) ik kb kp Q n um b' t (nI i)) (fun k t => ∀ j, j < k → ∀ Y, Ps[j]? = some Y → YC (t j) Y) Ps.length past (fun j hj => by omega) ?_ ?_
  · intro n t ht
    unfold wp_X0_restore_23
    exact ⟨fun _ => hQ b' t hb' (PC_of h8 ht), fun c => by simp (disch := omega) only [il0, il1, il2, il3, il4, il5, il6, il7, il8, il9, il10, il15, il16, il22, il24, il30, il31, il40, il41, il60, il70, il146, il161, il9999, pk_mul, nI_add, pk_sub, nI_clamp, nI_leI, nI_ltI, nI_eq] at c; omega⟩
  · intro n k t hk ht ih
    unfold wp_X0_restore_23
    refine ⟨fun c => by simp (disch := omega) only [il0, il1, il2, il3, il4, il5, il6, il7, il8, il9, il10, il15, il16, il22, il24, il30, il31, il40, il41, il60, il70, il146, il161, il9999, pk_mul, nI_add, pk_sub, nI_clamp, nI_leI, nI_ltI, nI_eq] at c; omega, fun _ => ⟨vp_in_nI (by omega) (by omega), fun e => ?_, fun e => ?_, fun e => ?_, fun e => ?_, fun e => ?_, fun e => ?_, fun e => ?_, fun e => ?_⟩⟩
    · simp (disch := omega) only [il0, il1, il2, il3, il4, il5, il6, il7, il8, il9, il10, il15, il16, il22, il24, il30, il31, il40, il41, il60, il70, il146, il161, il9999, pk_mul, nI_add, pk_sub, nI_clamp, nI_leI, nI_ltI, nI_eq] at e
      subst e
      obtain ⟨Y, hY⟩ : ∃ Y, Ps[0]? = some Y := ⟨_, List.getElem?_eq_getElem hk⟩
      have hYs := hsz Y (List.mem_of_getElem? hY)
      refine pc_takeYear (hp.2 0 Y hY) hYs.1 hYs.2 (fun u hu _ _ _ => ih (b8 u (t 1) (t 2) (t 3) (t 4) (t 5) (t 6) (t 7)) (fun j hj Z hZ => ?_))
      by_cases ej : j = 0
      · subst ej
        cases hY.symm.trans hZ
        exact hu
      · have hh := ht j (by omega) Z hZ
        have hc : j = 0 ∨ j = 1 ∨ j = 2 ∨ j = 3 ∨ j = 4 ∨ j = 5 ∨ j = 6 ∨ j = 7 := by omega
        rcases hc with rfl | rfl | rfl | rfl | rfl | rfl | rfl | rfl <;> first | exact hh | exact absurd rfl ej
    · simp (disch := omega) only [il0, il1, il2, il3, il4, il5, il6, il7, il8, il9, il10, il15, il16, il22, il24, il30, il31, il40, il41, il60, il70, il146, il161, il9999, pk_mul, nI_add, pk_sub, nI_clamp, nI_leI, nI_ltI, nI_eq] at e
      subst e
      obtain ⟨Y, hY⟩ : ∃ Y, Ps[1]? = some Y := ⟨_, List.getElem?_eq_getElem hk⟩
      have hYs := hsz Y (List.mem_of_getElem? hY)
      refine pc_takeYear (hp.2 1 Y hY) hYs.1 hYs.2 (fun u hu _ _ _ => ih (b8 (t 0) u (t 2) (t 3) (t 4) (t 5) (t 6) (t 7)) (fun j hj Z hZ => ?_))
      by_cases ej : j = 1
      · subst ej
        cases hY.symm.trans hZ
        exact hu
      · have hh := ht j (by omega) Z hZ
        have hc : j = 0 ∨ j = 1 ∨ j = 2 ∨ j = 3 ∨ j = 4 ∨ j = 5 ∨ j = 6 ∨ j = 7 := by omega
        rcases hc with rfl | rfl | rfl | rfl | rfl | rfl | rfl | rfl <;> first | exact hh | exact absurd rfl ej
    · simp (disch := omega) only [il0, il1, il2, il3, il4, il5, il6, il7, il8, il9, il10, il15, il16, il22, il24, il30, il31, il40, il41, il60, il70, il146, il161, il9999, pk_mul, nI_add, pk_sub, nI_clamp, nI_leI, nI_ltI, nI_eq] at e
      subst e
      obtain ⟨Y, hY⟩ : ∃ Y, Ps[2]? = some Y := ⟨_, List.getElem?_eq_getElem hk⟩
      have hYs := hsz Y (List.mem_of_getElem? hY)
      refine pc_takeYear (hp.2 2 Y hY) hYs.1 hYs.2 (fun u hu _ _ _ => ih (b8 (t 0) (t 1) u (t 3) (t 4) (t 5) (t 6) (t 7)) (fun j hj Z hZ => ?_))
      by_cases ej : j = 2
      · subst ej
        cases hY.symm.trans hZ
        exact hu
      · have hh := ht j (by omega) Z hZ
        have hc : j = 0 ∨ j = 1 ∨ j = 2 ∨ j = 3 ∨ j = 4 ∨ j = 5 ∨ j = 6 ∨ j = 7 := by omega
        rcases hc with rfl | rfl | rfl | rfl | rfl | rfl | rfl | rfl <;> first | exact hh | exact absurd rfl ej
    · simp (disch := omega) only [il0, il1, il2, il3, il4, il5, il6, il7, il8, il9, il10, il15, il16, il22, il24, il30, il31, il40, il41, il60, il70, il146, il161, il9999, pk_mul, nI_add, pk_sub, nI_clamp, nI_leI, nI_ltI, nI_eq] at e
      subst e
      obtain ⟨Y, hY⟩ : ∃ Y, Ps[3]? = some Y := ⟨_, List.getElem?_eq_getElem hk⟩
      have hYs := hsz Y (List.mem_of_getElem? hY)
      refine pc_takeYear (hp.2 3 Y hY) hYs.1 hYs.2 (fun u hu _ _ _ => ih (b8 (t 0) (t 1) (t 2) u (t 4) (t 5) (t 6) (t 7)) (fun j hj Z hZ => ?_))
      by_cases ej : j = 3
      · subst ej
        cases hY.symm.trans hZ
        exact hu
      · have hh := ht j (by omega) Z hZ
        have hc : j = 0 ∨ j = 1 ∨ j = 2 ∨ j = 3 ∨ j = 4 ∨ j = 5 ∨ j = 6 ∨ j = 7 := by omega
        rcases hc with rfl | rfl | rfl | rfl | rfl | rfl | rfl | rfl <;> first | exact hh | exact absurd rfl ej
    · simp (disch := omega) only [il0, il1, il2, il3, il4, il5, il6, il7, il8, il9, il10, il15, il16, il22, il24, il30, il31, il40, il41, il60, il70, il146, il161, il9999, pk_mul, nI_add, pk_sub, nI_clamp, nI_leI, nI_ltI, nI_eq] at e
      subst e
      obtain ⟨Y, hY⟩ : ∃ Y, Ps[4]? = some Y := ⟨_, List.getElem?_eq_getElem hk⟩
      have hYs := hsz Y (List.mem_of_getElem? hY)
      refine pc_takeYear (hp.2 4 Y hY) hYs.1 hYs.2 (fun u hu _ _ _ => ih (b8 (t 0) (t 1) (t 2) (t 3) u (t 5) (t 6) (t 7)) (fun j hj Z hZ => ?_))
      by_cases ej : j = 4
      · subst ej
        cases hY.symm.trans hZ
        exact hu
      · have hh := ht j (by omega) Z hZ
        have hc : j = 0 ∨ j = 1 ∨ j = 2 ∨ j = 3 ∨ j = 4 ∨ j = 5 ∨ j = 6 ∨ j = 7 := by omega
        rcases hc with rfl | rfl | rfl | rfl | rfl | rfl | rfl | rfl <;> first | exact hh | exact absurd rfl ej
    · simp (disch := omega) only [il0, il1, il2, il3, il4, il5, il6, il7, il8, il9, il10, il15, il16, il22, il24, il30, il31, il40, il41, il60, il70, il146, il161, il9999, pk_mul, nI_add, pk_sub, nI_clamp, nI_leI, nI_ltI, nI_eq] at e
      subst e
      obtain ⟨Y, hY⟩ : ∃ Y, Ps[5]? = some Y := ⟨_, List.getElem?_eq_getElem hk⟩
      have hYs := hsz Y (List.mem_of_getElem? hY)
      refine pc_takeYear (hp.2 5 Y hY) hYs.1 hYs.2 (fun u hu _ _ _ => ih (b8 (t 0) (t 1) (t 2) (t 3) (t 4) u (t 6) (t 7)) (fun j hj Z hZ => ?_))
      by_cases ej : j = 5
      · subst ej
        cases hY.symm.trans hZ
        exact hu
      · have hh := ht j (by omega) Z hZ
        have hc : j = 0 ∨ j = 1 ∨ j = 2 ∨ j = 3 ∨ j = 4 ∨ j = 5 ∨ j = 6 ∨ j = 7 := by omega
        rcases hc with rfl | rfl | rfl | rfl | rfl | rfl | rfl | rfl <;> first | exact hh | exact absurd rfl ej
    · simp (disch := omega) only [il0, il1, il2, il3, il4, il5, il6, il7, il8, il9, il10, il15, il16, il22, il24, il30, il31, il40, il41, il60, il70, il146, il161, il9999, pk_mul, nI_add, pk_sub, nI_clamp, nI_leI, nI_ltI, nI_eq] at e
      subst e
      obtain ⟨Y, hY⟩ : ∃ Y, Ps[6]? = some Y := ⟨_, List.getElem?_eq_getElem hk⟩
      have hYs := hsz Y (List.mem_of_getElem? hY)
      refine pc_takeYear (hp.2 6 Y hY) hYs.1 hYs.2 (fun u hu _ _ _ => ih (b8 (t 0) (t 1) (t 2) (t 3) (t 4) (t 5) u (t 7)) (fun j hj Z hZ => ?_))
      by_cases ej : j = 6
      · subst ej
        cases hY.symm.trans hZ
        exact hu
      · have hh := ht j (by omega) Z hZ
        have hc : j = 0 ∨ j = 1 ∨ j = 2 ∨ j = 3 ∨ j = 4 ∨ j = 5 ∨ j = 6 ∨ j = 7 := by omega
        rcases hc with rfl | rfl | rfl | rfl | rfl | rfl | rfl | rfl <;> first | exact hh | exact absurd rfl ej
    · simp (disch := omega) only [il0, il1, il2, il3, il4, il5, il6, il7, il8, il9, il10, il15, il16, il22, il24, il30, il31, il40, il41, il60, il70, il146, il161, il9999, pk_mul, nI_add, pk_sub, nI_clamp, nI_leI, nI_ltI, nI_eq] at e
      subst e
      obtain ⟨Y, hY⟩ : ∃ Y, Ps[7]? = some Y := ⟨_, List.getElem?_eq_getElem hk⟩
      have hYs := hsz Y (List.mem_of_getElem? hY)
      refine pc_takeYear (hp.2 7 Y hY) hYs.1 hYs.2 (fun u hu _ _ _ => ih (b8 (t 0) (t 1) (t 2) (t 3) (t 4) (t 5) (t 6) u) (fun j hj Z hZ => ?_))
      by_cases ej : j = 7
      · subst ej
        cases hY.symm.trans hZ
        exact hu
      · have hh := ht j (by omega) Z hZ
        have hc : j = 0 ∨ j = 1 ∨ j = 2 ∨ j = 3 ∨ j = 4 ∨ j = 5 ∨ j = 6 ∨ j = 7 := by omega
        rcases hc with rfl | rfl | rfl | rfl | rfl | rfl | rfl | rfl <;> first | exact hh | exact absurd rfl ej
theorem MP_same {s s' : Nat → Int32} {B : AB} {Ps : List AB} (hI : InvP B Ps) (h : MR s B) (hp : PM s Ps) (he : ∀ i, i < 161 → s' i = s i) : MR s' B ∧ PM s' Ps := by
  refine ⟨MRx h hI.1.1 hI.1.len (fun i hi => he i (by omega)), hp.1, by rw [he 40 (by omega)]; exact hp.2.1, fun k Y hk => ?_⟩
  have hkl := (List.getElem?_eq_some_iff.mp hk).1
  have h8 := hp.1
  have hY := hI.sz Y (List.mem_of_getElem? hk)
  exact YM_same (hp.2.2 k Y hk) hY.1 hY.2 (fun i hi => he _ (by omega))
theorem pm_image {s im : Nat → Int32} {kept : Int32} {Q : Int32 → Int32 × (Nat → Int32) → Prop} (hQ : ∀ im', (∀ i, i < 161 → im' i = s i) → Q 1 (1, im')) : wp_X9_image kept s im Q := by
  unfold wp_X9_image
  refine loop_0 (σ := Nat → Int32) (fun n i t => wp_X9_image_2 s Q n kept t (nI i)) (fun k t => ∀ j, j < k → t j = s j) 161 im (fun j hj => by omega) ?_ ?_
  · intro n t ht
    unfold wp_X9_image_2
    exact ⟨fun _ => hQ t ht, fun c => absurd (by decide) c⟩
  · intro n k t hk ht ih
    unfold wp_X9_image_2
    rw [nI_1, nI_clamp (by omega)]
    refine ⟨fun c => by simp (disch := omega) only [il0, il1, il2, il3, il4, il5, il6, il7, il8, il9, il10, il15, il16, il22, il24, il30, il31, il40, il41, il60, il70, il146, il161, il9999, pk_mul, nI_add, pk_sub, nI_clamp, nI_leI, nI_ltI, nI_eq] at c; omega, fun _ => ⟨vp_in_nI (by omega) (by omega), fun v hv => ⟨vp_in_nI (by omega) (by omega), fun f hf => ih f (fun j hj => ?_)⟩⟩⟩
    rw [hf]
    by_cases e : j = k
    · rw [e, pk_us, hv]
    · rw [pk_un e]; exact ht j (by omega)
theorem pm_restore {s im : Nat → Int32} {kept : Int32} (hk0 : ¬ kept = 0) {Q : Int32 → (Nat → Int32) → Prop} (hQ : ∀ s', (∀ i, i < 161 → s' i = im i) → Q 1 s') : wp_X9_restore kept s im Q := by
  unfold wp_X9_restore
  refine ⟨fun _ => ?_, fun c => absurd c hk0⟩
  refine loop_0 (σ := Nat → Int32) (fun n i t => wp_X9_restore_12 kept im Q n t (nI i)) (fun k t => ∀ j, j < k → t j = im j) 161 s (fun j hj => by omega) ?_ ?_
  · intro n t ht
    unfold wp_X9_restore_12
    exact ⟨fun _ => hQ t ht, fun c => absurd (by decide) c⟩
  · intro n k t hk ht ih
    unfold wp_X9_restore_12
    rw [nI_1, nI_clamp (by omega)]
    refine ⟨fun c => by simp (disch := omega) only [il0, il1, il2, il3, il4, il5, il6, il7, il8, il9, il10, il15, il16, il22, il24, il30, il31, il40, il41, il60, il70, il146, il161, il9999, pk_mul, nI_add, pk_sub, nI_clamp, nI_leI, nI_ltI, nI_eq] at c; omega, fun _ => ⟨vp_in_nI (by omega) (by omega), fun v hv => ⟨vp_in_nI (by omega) (by omega), fun f hf => ih f (fun j hj => ?_)⟩⟩⟩
    rw [hf]
    by_cases e : j = k
    · rw [e, pk_us, hv]
    · rw [pk_un e]; exact ht j (by omega)
/-! the tape -/
def TpR (f : Nat → Int32) (n : Int32) (tp : List Nat) : Prop := n = nI tp.length ∧ tp.length ≤ 70 ∧ (∀ k, k < tp.length → f k = nI (tp.getD k 0)) ∧ ∀ x ∈ tp, 32 ≤ x ∧ x ≤ 126
def typeI (tp : List Nat) (p1 : Int32) : Int32 := if inR p1 32 126 = true then (if tp.length = 70 then (-3) else nI (tp.length + 1)) else (-1)
def typeT (tp : List Nat) (p1 : Int32) : List Nat := if inR p1 32 126 = true then (if tp.length = 70 then tp else tp ++ [p1.toNatClampNeg]) else tp
theorem inR126 {x : Int32} (h : inR x 32 126 = true) : ∃ j, 32 ≤ j ∧ j ≤ 126 ∧ x = nI j := by
  rw [inR_t] at h
  refine ⟨x.toInt.toNat, by omega, by omega, Int32.toInt_inj.mp ?_⟩
  rw [nI_toInt (by omega)]; omega
theorem char_id : ∀ j, j < 127 → vp_nar .char (UInt32.toInt32 (Int32.toUInt32 (nI j) % 65536)) = nI j := by decide +kernel
theorem TpR_snoc {f g : Nat → Int32} {n : Int32} {tp : List Nat} (h : TpR f n tp) (h70 : tp.length ≠ 70) {j : Nat} (h1 : 32 ≤ j) (h2 : j ≤ 126) (hg : g = upd f tp.length (nI j)) : TpR g (nI (tp.length + 1)) (tp ++ [j]) := by
  have h7 := h.2.1
  refine ⟨by rw [List.length_append]; rfl, by rw [List.length_append]; show tp.length + 1 ≤ 70; omega, fun k hk => ?_, fun x hx => ?_⟩
  · rw [getD_snoc hk, hg]
    rw [List.length_append] at hk
    have hk : k < tp.length + 1 := hk
    split
    case isTrue e => rw [e, pk_us]
    case isFalse e => rw [pk_un e]; exact h.2.2.1 k (by omega)
  · rcases List.mem_append.mp hx with h3 | h3
    · exact h.2.2.2 x h3
    · simp at h3
      omega
theorem pc_type {f : Nat → Int32} {n : Int32} {tp : List Nat} (h : TpR f n tp) {p1 : Int32} {Q : Int32 → Int32 × (Nat → Int32) → Prop} (hQ : ∀ f' n', TpR f' n' (typeT tp p1) → Q (typeI tp p1) (n', f')) : wp_X0_type n f p1 Q := by
  have h7 := h.2.1
  unfold wp_X0_type
  refine pc_isIn (a := 32) (c := 126) rfl rfl ⟨fun c => ?_, fun c => ?_⟩
  · rw [b2i_n0] at c
    obtain ⟨j, h1, h2, rfl⟩ := inR126 c
    rw [h.1]
    simp only [typeI, typeT, if_pos c] at hQ
    refine ⟨fun c2 v4 e4 => ?_, fun c2 => ?_⟩ <;> simp (disch := omega) only [il0, il1, il2, il3, il4, il5, il6, il7, il8, il9, il10, il15, il16, il22, il24, il30, il31, il40, il41, il60, il70, il146, il161, il9999, pk_mul, nI_add, pk_sub, nI_clamp, nI_leI, nI_ltI, nI_eq] at c2
    · simp only [if_neg c2, nI_clamp (show j < 2 ^ 31 by omega)] at hQ
      rw [nI_clamp (by omega), nI_1]
      refine ⟨vp_in_nI (by omega) (by omega), fun f6 e6 v7 e7 => ?_⟩
      rw [e7]
      exact hQ f6 _ (TpR_snoc h c2 h1 h2 (by rw [e6, e4, char_id j (by omega)]))
    · simp only [if_pos c2] at hQ
      rw [← h.1]
      exact hQ f n h
  · rw [b2i_0] at c
    simp only [typeI, typeT, c] at hQ
    exact hQ f n h
theorem pm_type {f : Nat → Int32} {n : Int32} {tp : List Nat} (h : TpR f n tp) {p1 : Int32} {Q : Int32 → Int32 × (Nat → Int32) → Prop} (hQ : ∀ f' n', TpR f' n' (typeT tp p1) → Q (typeI tp p1) (n', f')) : wp_X9_type n f p1 Q := by
  have h7 := h.2.1
  unfold wp_X9_type
  refine pm_in ⟨fun c => ?_, fun c => ?_⟩
  · rw [b2i_n0] at c
    have c : inR p1 32 126 = true := c
    obtain ⟨j, h1, h2, rfl⟩ := inR126 c
    rw [h.1]
    simp only [typeI, typeT, if_pos c] at hQ
    refine ⟨fun c2 => ?_, fun c2 => ?_⟩ <;> simp (disch := omega) only [il0, il1, il2, il3, il4, il5, il6, il7, il8, il9, il10, il15, il16, il22, il24, il30, il31, il40, il41, il60, il70, il146, il161, il9999, pk_mul, nI_add, pk_sub, nI_clamp, nI_leI, nI_ltI, nI_eq] at c2
    · simp only [if_neg c2, nI_clamp (show j < 2 ^ 31 by omega)] at hQ
      rw [nI_clamp (by omega), nI_1]
      refine ⟨vp_in_nI (by omega) (by omega), fun f6 e6 v7 e7 => ?_⟩
      rw [e7]
      exact hQ f6 _ (TpR_snoc h c2 h1 h2 e6)
    · simp only [if_pos c2] at hQ
      rw [← h.1]
      exact hQ f n h
  · rw [b2i_0] at c
    have c : inR p1 32 126 = false := c
    simp only [typeI, typeT, c] at hQ
    exact hQ f n h

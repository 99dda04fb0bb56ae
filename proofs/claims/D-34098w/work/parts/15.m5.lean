theorem est_sz {x h : Int} (hx : 0 ≤ x ∧ x ≤ 6) : (0 ≤ (64 : Int) / 2 ^ x.toNat ∧ (64 : Int) / 2 ^ x.toNat ≤ 64) ∧ (0 ≤ h ∧ h < 64 / 2 ^ x.toNat → (h + 1) * 2 ^ x.toNat ≤ 64) := by
  rcases (show x = 0 ∨ x = 1 ∨ x = 2 ∨ x = 3 ∨ x = 4 ∨ x = 5 ∨ x = 6 by omega) with rfl | rfl | rfl | rfl | rfl | rfl | rfl
  · rw [show (2 : Int) ^ (0 : Int).toNat = 1 from rfl]; omega
  · rw [show (2 : Int) ^ (1 : Int).toNat = 2 from rfl]; omega
  · rw [show (2 : Int) ^ (2 : Int).toNat = 4 from rfl]; omega
  · rw [show (2 : Int) ^ (3 : Int).toNat = 8 from rfl]; omega
  · rw [show (2 : Int) ^ (4 : Int).toNat = 16 from rfl]; omega
  · rw [show (2 : Int) ^ (5 : Int).toNat = 32 from rfl]; omega
  · rw [show (2 : Int) ^ (6 : Int).toNat = 64 from rfl]; omega
set_option maxHeartbeats 4000000 in
set_option maxRecDepth 100000 in
theorem kX3_product (l : Launch) (D : va_G) (a : Nat → Nat) (kc : Nat → ClassId) (th : Int) (cn tt ce co it we tk fv : Int → Int) (sz : Nat) (st ot : Int) (h_st : -2147483648 ≤ st ∧ st ≤ 2147483647) (h_ot : -2147483648 ≤ ot ∧ ot ≤ 2147483647) (hcn : ∀ i9 : Int, 0 ≤ cn i9 ∧ cn i9 ≤ 1000000) : Met l yX3_product (ws_ yX3_product cX3_product 6 (some .long)) ({ frames := 15, cells := 0, slots := 0, locals := 280 }) (va_Pc [.ref (a 0), .int (iI st), .int (iI ot)] (mW D a kc th cn tt ce co it we tk fv sz)) (va_Ql (fun (r : Int64) (_ : Unit) => r = lI (if cd2 st ot = 0 then zdot cn (64 * st) (64 * ot) 64 else 0)) (fun (_ : Unit) t8 => RW D clz mL a (mct a kc (cd2 st ot) cn tt ce co it we tk fv) t8.heap) (RA mL a sz)) 0 0 (RA mL a sz) := by
  refine Met.ofW (cc := cX3_product) (maxL := 6) (ret := (some .long)) (by decide) rfl ?_
  intro p e s m args below meth c s₁ B hml hv
  obtain ⟨rfl, hsz, hW, hK, hJ0⟩ := hv
  subst hsz
  have hJ := hJ0.self (sz := s.heap.size)
  have hS : va_S (RA mL a s.heap.size) s.heap s.heap [] := va_S.rf
  have hx := B.exec
  have hb := B.bytes
  have hr := B.returns
  have hlk := B.notSynchronized
  have hts := atoms_spec (ws := (ws_ yX3_product cX3_product 6 (some .long))) B.pre
  have hts : ∀ w ∈ lw_all, w.before _ s = true := fun w h => hts w (List.mem_cons_of_mem _ h)
  have hown : s.vm.findClass RX3 = some m.cls := findClass_of_methodNamed B.named
  have hl := lv_entry ([.ref (a 0), .int (iI st), .int (iI ot)]) (n := 6) (Nat.le_of_ble_eq_true rfl)
  rw [lg_entry_eq]
  generalize (lg_sl ([.ref (a 0), .int (iI st), .int (iI ot)]) ++ List.replicate (6 - (lg_sl ([.ref (a 0), .int (iI st), .int (iI ot)])).length) Slot.unset).toArray = ls at hl ⊢
  have hl : lv_has ls 6 [(0, .ref (a 0)), (1, .int (iI st)), (2, .int (iI ot))] := hl
  refine lv_aload_n hx hb dX3_product_0 rfl (lv_at hl 0 rfl) ?_
  refine lv_iload_n hx hb dX3_product_1 rfl (lv_at hl 1 rfl) ?_
  refine z_cs (W.runS (As := [.int (iI st)]) (rest := [.ref (a 0)]) ⟨hx, hb, hml, hown, hts⟩ (kX3_isStream l st (by omega)) (va_cwS 1 hts (lw_S q831 q832 q33 q833) rfl rfl rfl (by decide +kernel) ⟨Nat.le_of_ble_eq_true rfl, Nat.le_of_ble_eq_true rfl⟩) ⟨fun _ _ _ _ q => q, fun _ _ _ => ⟨rfl, trivial⟩⟩ rfl rfl hl.1 rfl (lv_room (Nat.le_of_ble_eq_true rfl)) dX3_product_2 ⟨Nat.le_of_ble_eq_true rfl, Nat.le_of_ble_eq_true rfl⟩) ?_
  refine z_if_eq (tgt := 19) hx hb dX3_product_5 (by decide) (zb_r _) (fun c_1 => ?_) (fun c_1 => ?_)
  · have c_1 := zb_0 c_1
    refine lv_iconst (v := iI 1) hx hb dX3_product_19 (by rfl) ?_
    refine va_calli (va_runV (As := [.int (iI 1)]) (rest := []) ⟨hx, hb, hml, hown, hts⟩ (kX3_holds l D a kc th cn tt ce co it we tk fv _ 1 (by omega)) (cwV 1 hts (lw_V q838 q840 qs11 q33 q841) rfl rfl rfl (by decide +kernel) ⟨Nat.le_of_ble_eq_true rfl, Nat.le_of_ble_eq_true rfl⟩) ⟨mW_blind, w_recv hK hW 0 (by decide) rfl rfl, mW_pre hW hK hJ.any⟩ rfl rfl hl.1 rfl (lv_room (Nat.le_of_ble_eq_true rfl)) dX3_product_20 ⟨Nat.le_of_ble_eq_true rfl, Nat.le_of_ble_eq_true rfl⟩) hS (fun q _ h => RA.mono hS.1 q h) (RA.mono hS.1) (fun r9 u9 t9 H locs ht9 hvm9 hr9 hB9 hz9 hk9 hS => ?_)
    subst hr9
    have hW : RW D clz mL a (mct a kc 1 cn tt ce co it we tk fv) H := by rw [← ht9]; exact hB9
    refine z_as 0 (by decide) ?_
    refine z_if_ne (tgt := 28) hx hb dX3_product_23 (by decide) (by decide) (fun h9 => absurd h9 (by decide)) (fun _ => ?_)
    refine lv_lconst (v := lI 0) hx hb dX3_product_26 (by rfl) ?_
    have hz9 : cd2 st ot = 1 := by unfold cd2; (repeat' split) <;> omega
    rw [hz9]
    exact z_retWl hx hb hr hlk hW hS (by rw [if_neg (by decide)]) dX3_product_27
  · have c_1 := zb_1 c_1
    refine lv_iload_n hx hb dX3_product_8 rfl (lv_at hl 2 rfl) ?_
    refine z_cs (W.runS (As := [.int (iI ot)]) (rest := [.ref (a 0)]) ⟨hx, hb, hml, hown, hts⟩ (kX3_isStream l ot (by omega)) (va_cwS 1 hts (lw_S q831 q832 q33 q833) rfl rfl rfl (by decide +kernel) ⟨Nat.le_of_ble_eq_true rfl, Nat.le_of_ble_eq_true rfl⟩) ⟨fun _ _ _ _ q => q, fun _ _ _ => ⟨rfl, trivial⟩⟩ rfl rfl hl.1 rfl (lv_room (Nat.le_of_ble_eq_true rfl)) dX3_product_9 ⟨Nat.le_of_ble_eq_true rfl, Nat.le_of_ble_eq_true rfl⟩) ?_
    refine z_if_eq (tgt := 19) hx hb dX3_product_12 (by decide) (zb_r _) (fun c_3 => ?_) (fun c_3 => ?_)
    · have c_3 := zb_0 c_3
      refine lv_iconst (v := iI 1) hx hb dX3_product_19 (by rfl) ?_
      refine va_calli (va_runV (As := [.int (iI 1)]) (rest := []) ⟨hx, hb, hml, hown, hts⟩ (kX3_holds l D a kc th cn tt ce co it we tk fv _ 1 (by omega)) (cwV 1 hts (lw_V q838 q840 qs11 q33 q841) rfl rfl rfl (by decide +kernel) ⟨Nat.le_of_ble_eq_true rfl, Nat.le_of_ble_eq_true rfl⟩) ⟨mW_blind, w_recv hK hW 0 (by decide) rfl rfl, mW_pre hW hK hJ.any⟩ rfl rfl hl.1 rfl (lv_room (Nat.le_of_ble_eq_true rfl)) dX3_product_20 ⟨Nat.le_of_ble_eq_true rfl, Nat.le_of_ble_eq_true rfl⟩) hS (fun q _ h => RA.mono hS.1 q h) (RA.mono hS.1) (fun r9 u9 t9 H locs ht9 hvm9 hr9 hB9 hz9 hk9 hS => ?_)
      subst hr9
      have hW : RW D clz mL a (mct a kc 1 cn tt ce co it we tk fv) H := by rw [← ht9]; exact hB9
      refine z_as 0 (by decide) ?_
      refine z_if_ne (tgt := 28) hx hb dX3_product_23 (by decide) (by decide) (fun h9 => absurd h9 (by decide)) (fun _ => ?_)
      refine lv_lconst (v := lI 0) hx hb dX3_product_26 (by rfl) ?_
      have hz9 : cd2 st ot = 1 := by unfold cd2; (repeat' split) <;> omega
      rw [hz9]
      exact z_retWl hx hb hr hlk hW hS (by rw [if_neg (by decide)]) dX3_product_27
    · have c_3 := zb_1 c_3
      refine lv_iconst (v := iI 0) hx hb dX3_product_15 (by rfl) ?_
      refine lv_goto (tgt := 20) hx hb dX3_product_16 (by decide) ?_
      refine va_calli (va_runV (As := [.int (iI 0)]) (rest := []) ⟨hx, hb, hml, hown, hts⟩ (kX3_holds l D a kc th cn tt ce co it we tk fv _ 0 (by omega)) (cwV 1 hts (lw_V q838 q840 qs11 q33 q841) rfl rfl rfl (by decide +kernel) ⟨Nat.le_of_ble_eq_true rfl, Nat.le_of_ble_eq_true rfl⟩) ⟨mW_blind, w_recv hK hW 0 (by decide) rfl rfl, mW_pre hW hK hJ.any⟩ rfl rfl hl.1 rfl (lv_room (Nat.le_of_ble_eq_true rfl)) dX3_product_20 ⟨Nat.le_of_ble_eq_true rfl, Nat.le_of_ble_eq_true rfl⟩) hS (fun q _ h => RA.mono hS.1 q h) (RA.mono hS.1) (fun r9 u9 t9 H locs ht9 hvm9 hr9 hB9 hz9 hk9 hS => ?_)
      subst hr9
      have hW : RW D clz mL a (mct a kc 0 cn tt ce co it we tk fv) H := by rw [← ht9]; exact hB9
      refine z_as 1 (by decide) ?_
      refine z_if_ne (tgt := 28) hx hb dX3_product_23 (by decide) (by decide) (fun _ => ?_) (fun h9 => absurd h9 (by decide))
      refine lv_lconst (v := lI 0) hx hb dX3_product_28 (by rfl) ?_
      refine lv_lstore_n (lv' := [(3, .long (lI 0)), (0, .ref (a 0)), (1, .int (iI st)), (2, .int (iI ot))]) hx hb dX3_product_29 rfl hl (by decide) rfl (fun ls hl => ?_)
      refine lv_iconst (v := iI 0) hx hb dX3_product_30 (by rfl) ?_
      refine lv_istore (lv' := [(5, .int (iI 0)), (3, .long (lI 0)), (0, .ref (a 0)), (1, .int (iI st)), (2, .int (iI ot))]) hx hb dX3_product_31 hl (by decide) rfl (fun ls hl => ?_)
      refine z_loopR (σ := Int × Int) (fun x9 => [(0, .ref (a 0)), (1, .int (iI st)), (2, .int (iI ot)), (3, .long (lI x9.2)), (5, .int (iI x9.1))]) (fun x9 => (0 ≤ x9.1 ∧ x9.1 ≤ 64) ∧ (x9.2 = zdot cn (64 * st) (64 * ot) x9.1.toNat)) (fun x9 => (64 - x9.1).toNat) ?_ (0, 0) (by show (0 ≤ (0 : Int) ∧ (0 : Int) ≤ 64) ∧ ((0 : Int) = zdot cn (64 * st) (64 * ot) (0 : Int).toNat); exact ⟨by omega, rfl⟩) (lv_sub hl [2, 3, 4, 1, 0] rfl)
      rintro ⟨i, acc⟩ hI9 ih_33 ls hl
      have hI9 : (0 ≤ i ∧ i ≤ 64) ∧ (acc = zdot cn (64 * st) (64 * ot) i.toNat) := hI9
      obtain ⟨g1, g2⟩ := hI9
      have hl : lv_has ls 6 [(0, .ref (a 0)), (1, .int (iI st)), (2, .int (iI ot)), (3, .long (lI acc)), (5, .int (iI i))] := hl
      refine lv_iload hx hb dX3_product_33 (lv_at hl 4 rfl) ?_
      refine lv_bipush (v := iI 64) hx hb dX3_product_35 (by rfl) ?_
      refine z_icmp_ge (tgt := 76) hx hb dX3_product_37 (by decide) (by omega) (by decide) (fun c_6 => ?_) (fun c_6 => ?_)
      · have hk : i = 64 := by omega
        rw [hk] at g2
        refine lv_lload_n hx hb dX3_product_76 rfl (lv_at hl 3 rfl) ?_
        have hz9 : cd2 st ot = 0 := by unfold cd2; (repeat' split) <;> omega
        rw [hz9]
        exact z_retWl hx hb hr hlk hW hS (by rw [if_pos rfl]; exact g2) dX3_product_77
      · have hb1 := hcn (64 * st + i)
        have hb2 := hcn (64 * ot + i)
        refine lv_lload_n hx hb dX3_product_40 rfl (lv_at hl 3 rfl) ?_
        refine lv_aload_n hx hb dX3_product_41 rfl (lv_at hl 0 rfl) ?_
        refine w_getf (ci := 0) (v := .ref (a 1)) (C := RX3) (T := TX3) (N := 9) hx hb hts in_X3 hown hK hW 0 (by decide) rfl rfl 1 (by decide) (hts _ q796) (fun _ h9 => h9) rfl dX3_product_42 ?_
        refine lv_bipush (v := iI 64) hx hb dX3_product_45 (by rfl) ?_
        refine lv_iload_n hx hb dX3_product_47 rfl (lv_at hl 1 rfl) ?_
        refine z_imul hx hb dX3_product_48 ?_
        refine lv_iload hx hb dX3_product_49 (lv_at hl 4 rfl) ?_
        refine z_iadd hx hb dX3_product_51 ?_
        refine w_iald hx hb hK hW 1 0 (by decide) (n := 256) (g := cn) rfl rfl (by omega) (by decide) dX3_product_52 ?_
        refine z_i2l hx hb dX3_product_53 (by omega) ?_
        refine lv_aload_n hx hb dX3_product_54 rfl (lv_at hl 0 rfl) ?_
        refine w_getf (ci := 0) (v := .ref (a 1)) (C := RX3) (T := TX3) (N := 9) hx hb hts in_X3 hown hK hW 0 (by decide) rfl rfl 1 (by decide) (hts _ q796) (fun _ h9 => h9) rfl dX3_product_55 ?_
        refine lv_bipush (v := iI 64) hx hb dX3_product_58 (by rfl) ?_
        refine lv_iload_n hx hb dX3_product_60 rfl (lv_at hl 2 rfl) ?_
        refine z_imul hx hb dX3_product_61 ?_
        refine lv_iload hx hb dX3_product_62 (lv_at hl 4 rfl) ?_
        refine z_iadd hx hb dX3_product_64 ?_
        refine w_iald hx hb hK hW 1 0 (by decide) (n := 256) (g := cn) rfl rfl (by omega) (by decide) dX3_product_65 ?_
        refine z_i2l hx hb dX3_product_66 (by omega) ?_
        refine z_lmul hx hb dX3_product_67 ?_
        refine z_ladd hx hb dX3_product_68 ?_
        refine lv_lstore_n (lv' := [(3, .long (lI (acc + ((cn ((64 * st) + i)) * (cn ((64 * ot) + i)))))), (0, .ref (a 0)), (1, .int (iI st)), (2, .int (iI ot)), (5, .int (iI i))]) hx hb dX3_product_69 rfl hl (by decide) rfl (fun ls hl => ?_)
        refine lv_iinc (v := iI (i + 1)) (lv' := [(5, .int (iI (i + 1))), (3, .long (lI (acc + ((cn ((64 * st) + i)) * (cn ((64 * ot) + i)))))), (0, .ref (a 0)), (1, .int (iI st)), (2, .int (iI ot))]) hx hb dX3_product_70 hl (k := 4) rfl (iI_add _ _) (by decide) rfl (fun ls hl => ?_)
        refine lv_goto (tgt := 33) hx hb dX3_product_73 (by decide) ?_
        exact ih_33 ((i + 1), (acc + ((cn ((64 * st) + i)) * (cn ((64 * ot) + i))))) (by show (0 ≤ (i + 1) ∧ (i + 1) ≤ 64) ∧ ((acc + ((cn ((64 * st) + i)) * (cn ((64 * ot) + i)))) = zdot cn (64 * st) (64 * ot) (i + 1).toNat); exact ⟨by omega, by rw [zdot_s (by omega), ← g2]⟩) (by show (64 - (i + 1)).toNat < (64 - i).toNat; omega) ls (lv_sub hl [2, 3, 4, 1, 0] rfl)
set_option maxHeartbeats 4000000 in
set_option maxRecDepth 100000 in
theorem kX3_column (l : Launch) (D : va_G) (a : Nat → Nat) (kc : Nat → ClassId) (th : Int) (cn tt ce co it we tk fv : Int → Int) (sz : Nat) (row h : Int) (h_row : -2147483648 ≤ row ∧ row ≤ 2147483647) (h_h : -2147483648 ≤ h ∧ h ≤ 2147483647) : Met l yX3_column (ws_ yX3_column cX3_column 3 (some .int)) ({ frames := 15, cells := 0, slots := 0, locals := 280 }) (va_Pc [.ref (a 0), .int (iI row), .int (iI h)] (mW D a kc th cn tt ce co it we tk fv sz)) (va_Qi (fun (r : Int32) (_ : Unit) => r = iI (if cdC row h = 0 then mCol row h else 0)) (fun (_ : Unit) t8 => RW D clz mL a (mct a kc (cdC row h) cn tt ce co it we tk fv) t8.heap) (RA mL a sz)) 0 0 (RA mL a sz) := by
  refine Met.ofW (cc := cX3_column) (maxL := 3) (ret := (some .int)) (by decide) rfl ?_
  intro p e s m args below meth c s₁ B hml hv
  obtain ⟨rfl, hsz, hW, hK, hJ0⟩ := hv
  subst hsz
  have hJ := hJ0.self (sz := s.heap.size)
  have hS : va_S (RA mL a s.heap.size) s.heap s.heap [] := va_S.rf
  have hx := B.exec
  have hb := B.bytes
  have hr := B.returns
  have hlk := B.notSynchronized
  have hts := atoms_spec (ws := (ws_ yX3_column cX3_column 3 (some .int))) B.pre
  have hts : ∀ w ∈ lw_all, w.before _ s = true := fun w h => hts w (List.mem_cons_of_mem _ h)
  have hown : s.vm.findClass RX3 = some m.cls := findClass_of_methodNamed B.named
  have hl := lv_entry ([.ref (a 0), .int (iI row), .int (iI h)]) (n := 3) (Nat.le_of_ble_eq_true rfl)
  rw [lg_entry_eq]
  generalize (lg_sl ([.ref (a 0), .int (iI row), .int (iI h)]) ++ List.replicate (3 - (lg_sl ([.ref (a 0), .int (iI row), .int (iI h)])).length) Slot.unset).toArray = ls at hl ⊢
  have hl : lv_has ls 3 [(0, .ref (a 0)), (1, .int (iI row)), (2, .int (iI h))] := hl
  refine lv_aload_n hx hb dX3_column_0 rfl (lv_at hl 0 rfl) ?_
  refine lv_iload_n hx hb dX3_column_1 rfl (lv_at hl 1 rfl) ?_
  refine lv_iconst (v := iI 3) hx hb dX3_column_2 (by rfl) ?_
  refine z_cs (W.runS (As := [.int (iI row), .int (iI 3)]) (rest := [.ref (a 0)]) ⟨hx, hb, hml, hown, hts⟩ (kX3_isIn l row 3 (by omega) (by omega)) (va_cwS 2 hts (lw_S q834 q835 q33 q836) rfl rfl rfl (by decide +kernel) ⟨Nat.le_of_ble_eq_true rfl, Nat.le_of_ble_eq_true rfl⟩) ⟨fun _ _ _ _ q => q, fun _ _ _ => ⟨rfl, trivial⟩⟩ rfl rfl hl.1 rfl (lv_room (Nat.le_of_ble_eq_true rfl)) dX3_column_3 ⟨Nat.le_of_ble_eq_true rfl, Nat.le_of_ble_eq_true rfl⟩) ?_
  refine z_if_eq (tgt := 22) hx hb dX3_column_6 (by decide) (zb_r _) (fun c_1 => ?_) (fun c_1 => ?_)
  · have c_1 := zb_0 c_1
    refine lv_iconst (v := iI 1) hx hb dX3_column_22 (by rfl) ?_
    refine va_calli (va_runV (As := [.int (iI 1)]) (rest := []) ⟨hx, hb, hml, hown, hts⟩ (kX3_holds l D a kc th cn tt ce co it we tk fv _ 1 (by omega)) (cwV 1 hts (lw_V q838 q840 qs11 q33 q841) rfl rfl rfl (by decide +kernel) ⟨Nat.le_of_ble_eq_true rfl, Nat.le_of_ble_eq_true rfl⟩) ⟨mW_blind, w_recv hK hW 0 (by decide) rfl rfl, mW_pre hW hK hJ.any⟩ rfl rfl hl.1 rfl (lv_room (Nat.le_of_ble_eq_true rfl)) dX3_column_23 ⟨Nat.le_of_ble_eq_true rfl, Nat.le_of_ble_eq_true rfl⟩) hS (fun q _ h => RA.mono hS.1 q h) (RA.mono hS.1) (fun r9 u9 t9 H locs ht9 hvm9 hr9 hB9 hz9 hk9 hS => ?_)
    subst hr9
    have hW : RW D clz mL a (mct a kc 1 cn tt ce co it we tk fv) H := by rw [← ht9]; exact hB9
    refine z_as 0 (by decide) ?_
    refine z_if_eq (tgt := 37) hx hb dX3_column_26 (by decide) (by decide) (fun _ => ?_) (fun h9 => absurd h9 (by decide))
    refine lv_iconst (v := iI 0) hx hb dX3_column_37 (by rfl) ?_
    have hz9 : cdC row h = 1 := by unfold cdC; (repeat' split) <;> omega
    rw [hz9]
    exact z_retW hx hb hr hlk hW hS (by rw [if_neg (by decide)]) dX3_column_38
  · have c_1 := zb_1 c_1
    refine lv_iload_n hx hb dX3_column_9 rfl (lv_at hl 2 rfl) ?_
    refine lv_bipush (v := iI 64) hx hb dX3_column_10 (by rfl) ?_
    refine z_cs (W.runS (As := [.int (iI h), .int (iI 64)]) (rest := [.ref (a 0)]) ⟨hx, hb, hml, hown, hts⟩ (kX3_isIn l h 64 (by omega) (by omega)) (va_cwS 2 hts (lw_S q834 q835 q33 q836) rfl rfl rfl (by decide +kernel) ⟨Nat.le_of_ble_eq_true rfl, Nat.le_of_ble_eq_true rfl⟩) ⟨fun _ _ _ _ q => q, fun _ _ _ => ⟨rfl, trivial⟩⟩ rfl rfl hl.1 rfl (lv_room (Nat.le_of_ble_eq_true rfl)) dX3_column_12 ⟨Nat.le_of_ble_eq_true rfl, Nat.le_of_ble_eq_true rfl⟩) ?_
    refine z_if_eq (tgt := 22) hx hb dX3_column_15 (by decide) (zb_r _) (fun c_3 => ?_) (fun c_3 => ?_)
    · have c_3 := zb_0 c_3
      refine lv_iconst (v := iI 1) hx hb dX3_column_22 (by rfl) ?_
      refine va_calli (va_runV (As := [.int (iI 1)]) (rest := []) ⟨hx, hb, hml, hown, hts⟩ (kX3_holds l D a kc th cn tt ce co it we tk fv _ 1 (by omega)) (cwV 1 hts (lw_V q838 q840 qs11 q33 q841) rfl rfl rfl (by decide +kernel) ⟨Nat.le_of_ble_eq_true rfl, Nat.le_of_ble_eq_true rfl⟩) ⟨mW_blind, w_recv hK hW 0 (by decide) rfl rfl, mW_pre hW hK hJ.any⟩ rfl rfl hl.1 rfl (lv_room (Nat.le_of_ble_eq_true rfl)) dX3_column_23 ⟨Nat.le_of_ble_eq_true rfl, Nat.le_of_ble_eq_true rfl⟩) hS (fun q _ h => RA.mono hS.1 q h) (RA.mono hS.1) (fun r9 u9 t9 H locs ht9 hvm9 hr9 hB9 hz9 hk9 hS => ?_)
      subst hr9
      have hW : RW D clz mL a (mct a kc 1 cn tt ce co it we tk fv) H := by rw [← ht9]; exact hB9
      refine z_as 0 (by decide) ?_
      refine z_if_eq (tgt := 37) hx hb dX3_column_26 (by decide) (by decide) (fun _ => ?_) (fun h9 => absurd h9 (by decide))
      refine lv_iconst (v := iI 0) hx hb dX3_column_37 (by rfl) ?_
      have hz9 : cdC row h = 1 := by unfold cdC; (repeat' split) <;> omega
      rw [hz9]
      exact z_retW hx hb hr hlk hW hS (by rw [if_neg (by decide)]) dX3_column_38
    · have c_3 := zb_1 c_3
      refine lv_iconst (v := iI 0) hx hb dX3_column_18 (by rfl) ?_
      refine lv_goto (tgt := 23) hx hb dX3_column_19 (by decide) ?_
      refine va_calli (va_runV (As := [.int (iI 0)]) (rest := []) ⟨hx, hb, hml, hown, hts⟩ (kX3_holds l D a kc th cn tt ce co it we tk fv _ 0 (by omega)) (cwV 1 hts (lw_V q838 q840 qs11 q33 q841) rfl rfl rfl (by decide +kernel) ⟨Nat.le_of_ble_eq_true rfl, Nat.le_of_ble_eq_true rfl⟩) ⟨mW_blind, w_recv hK hW 0 (by decide) rfl rfl, mW_pre hW hK hJ.any⟩ rfl rfl hl.1 rfl (lv_room (Nat.le_of_ble_eq_true rfl)) dX3_column_23 ⟨Nat.le_of_ble_eq_true rfl, Nat.le_of_ble_eq_true rfl⟩) hS (fun q _ h => RA.mono hS.1 q h) (RA.mono hS.1) (fun r9 u9 t9 H locs ht9 hvm9 hr9 hB9 hz9 hk9 hS => ?_)
      subst hr9
      have hW : RW D clz mL a (mct a kc 0 cn tt ce co it we tk fv) H := by rw [← ht9]; exact hB9
      refine z_as 1 (by decide) ?_
      refine z_if_eq (tgt := 37) hx hb dX3_column_26 (by decide) (by decide) (fun h9 => absurd h9 (by decide)) (fun _ => ?_)
      refine lv_iload_n hx hb dX3_column_29 rfl (lv_at hl 1 rfl) ?_
      refine lv_iload_n hx hb dX3_column_30 rfl (lv_at hl 2 rfl) ?_
      refine z_cs (W.runS (As := [.int (iI row), .int (iI h)]) (rest := []) ⟨hx, hb, hml, hown, hts⟩ (kX3_columnOf l row h (by omega) (by omega)) (va_cwS 2 hts (lw_S q854 q855 q33 q856) rfl rfl rfl (by decide +kernel) ⟨Nat.le_of_ble_eq_true rfl, Nat.le_of_ble_eq_true rfl⟩) ⟨fun _ _ _ _ q => q, fun _ _ _ => ⟨rfl, trivial⟩⟩ rfl rfl hl.1 rfl (lv_room (Nat.le_of_ble_eq_true rfl)) dX3_column_31 ⟨Nat.le_of_ble_eq_true rfl, Nat.le_of_ble_eq_true rfl⟩) ?_
      refine lv_goto (tgt := 38) hx hb dX3_column_34 (by decide) ?_
      have hz9 : cdC row h = 0 := by unfold cdC; (repeat' split) <;> omega
      rw [hz9]
      exact z_retW hx hb hr hlk hW hS (by rw [if_pos rfl]) dX3_column_38
set_option maxHeartbeats 4000000 in
set_option maxRecDepth 100000 in
theorem kX3_signedColumn (l : Launch) (D : va_G) (a : Nat → Nat) (kc : Nat → ClassId) (th : Int) (cn tt ce co it we tk fv : Int → Int) (sz : Nat) (row i : Int) (h_row : -2147483648 ≤ row ∧ row ≤ 2147483647) (h_i : -2147483648 ≤ i ∧ i ≤ 2147483647) : Met l yX3_signedColumn (ws_ yX3_signedColumn cX3_signedColumn 3 (some .int)) ({ frames := 15, cells := 0, slots := 0, locals := 280 }) (va_Pc [.ref (a 0), .int (iI row), .int (iI i)] (mW D a kc th cn tt ce co it we tk fv sz)) (va_Qi (fun (r : Int32) (_ : Unit) => r = iI (if cdX row i = 0 then mSCol row i else 0)) (fun (_ : Unit) t8 => RW D clz mL a (mct a kc (cdX row i) cn tt ce co it we tk fv) t8.heap) (RA mL a sz)) 0 0 (RA mL a sz) := by
  refine Met.ofW (cc := cX3_signedColumn) (maxL := 3) (ret := (some .int)) (by decide) rfl ?_
  intro p e s m args below meth c s₁ B hml hv
  obtain ⟨rfl, hsz, hW, hK, hJ0⟩ := hv
  subst hsz
  have hJ := hJ0.self (sz := s.heap.size)
  have hS : va_S (RA mL a s.heap.size) s.heap s.heap [] := va_S.rf
  have hx := B.exec
  have hb := B.bytes
  have hr := B.returns
  have hlk := B.notSynchronized
  have hts := atoms_spec (ws := (ws_ yX3_signedColumn cX3_signedColumn 3 (some .int))) B.pre
  have hts : ∀ w ∈ lw_all, w.before _ s = true := fun w h => hts w (List.mem_cons_of_mem _ h)
  have hown : s.vm.findClass RX3 = some m.cls := findClass_of_methodNamed B.named
  have hl := lv_entry ([.ref (a 0), .int (iI row), .int (iI i)]) (n := 3) (Nat.le_of_ble_eq_true rfl)
  rw [lg_entry_eq]
  generalize (lg_sl ([.ref (a 0), .int (iI row), .int (iI i)]) ++ List.replicate (3 - (lg_sl ([.ref (a 0), .int (iI row), .int (iI i)])).length) Slot.unset).toArray = ls at hl ⊢
  have hl : lv_has ls 3 [(0, .ref (a 0)), (1, .int (iI row)), (2, .int (iI i))] := hl
  refine lv_aload_n hx hb dX3_signedColumn_0 rfl (lv_at hl 0 rfl) ?_
  refine lv_iload_n hx hb dX3_signedColumn_1 rfl (lv_at hl 1 rfl) ?_
  refine lv_iconst (v := iI 5) hx hb dX3_signedColumn_2 (by rfl) ?_
  refine z_cs (W.runS (As := [.int (iI row), .int (iI 5)]) (rest := [.ref (a 0)]) ⟨hx, hb, hml, hown, hts⟩ (kX3_isIn l row 5 (by omega) (by omega)) (va_cwS 2 hts (lw_S q834 q835 q33 q836) rfl rfl rfl (by decide +kernel) ⟨Nat.le_of_ble_eq_true rfl, Nat.le_of_ble_eq_true rfl⟩) ⟨fun _ _ _ _ q => q, fun _ _ _ => ⟨rfl, trivial⟩⟩ rfl rfl hl.1 rfl (lv_room (Nat.le_of_ble_eq_true rfl)) dX3_signedColumn_3 ⟨Nat.le_of_ble_eq_true rfl, Nat.le_of_ble_eq_true rfl⟩) ?_
  refine z_if_eq (tgt := 22) hx hb dX3_signedColumn_6 (by decide) (zb_r _) (fun c_1 => ?_) (fun c_1 => ?_)
  · have c_1 := zb_0 c_1
    refine lv_iconst (v := iI 1) hx hb dX3_signedColumn_22 (by rfl) ?_
    refine va_calli (va_runV (As := [.int (iI 1)]) (rest := []) ⟨hx, hb, hml, hown, hts⟩ (kX3_holds l D a kc th cn tt ce co it we tk fv _ 1 (by omega)) (cwV 1 hts (lw_V q838 q840 qs11 q33 q841) rfl rfl rfl (by decide +kernel) ⟨Nat.le_of_ble_eq_true rfl, Nat.le_of_ble_eq_true rfl⟩) ⟨mW_blind, w_recv hK hW 0 (by decide) rfl rfl, mW_pre hW hK hJ.any⟩ rfl rfl hl.1 rfl (lv_room (Nat.le_of_ble_eq_true rfl)) dX3_signedColumn_23 ⟨Nat.le_of_ble_eq_true rfl, Nat.le_of_ble_eq_true rfl⟩) hS (fun q _ h => RA.mono hS.1 q h) (RA.mono hS.1) (fun r9 u9 t9 H locs ht9 hvm9 hr9 hB9 hz9 hk9 hS => ?_)
    subst hr9
    have hW : RW D clz mL a (mct a kc 1 cn tt ce co it we tk fv) H := by rw [← ht9]; exact hB9
    refine z_as 0 (by decide) ?_
    refine z_if_eq (tgt := 37) hx hb dX3_signedColumn_26 (by decide) (by decide) (fun _ => ?_) (fun h9 => absurd h9 (by decide))
    refine lv_iconst (v := iI 0) hx hb dX3_signedColumn_37 (by rfl) ?_
    have hz9 : cdX row i = 1 := by unfold cdX; (repeat' split) <;> omega
    rw [hz9]
    exact z_retW hx hb hr hlk hW hS (by rw [if_neg (by decide)]) dX3_signedColumn_38
  · have c_1 := zb_1 c_1
    refine lv_iload_n hx hb dX3_signedColumn_9 rfl (lv_at hl 2 rfl) ?_
    refine lv_bipush (v := iI 64) hx hb dX3_signedColumn_10 (by rfl) ?_
    refine z_cs (W.runS (As := [.int (iI i), .int (iI 64)]) (rest := [.ref (a 0)]) ⟨hx, hb, hml, hown, hts⟩ (kX3_isIn l i 64 (by omega) (by omega)) (va_cwS 2 hts (lw_S q834 q835 q33 q836) rfl rfl rfl (by decide +kernel) ⟨Nat.le_of_ble_eq_true rfl, Nat.le_of_ble_eq_true rfl⟩) ⟨fun _ _ _ _ q => q, fun _ _ _ => ⟨rfl, trivial⟩⟩ rfl rfl hl.1 rfl (lv_room (Nat.le_of_ble_eq_true rfl)) dX3_signedColumn_12 ⟨Nat.le_of_ble_eq_true rfl, Nat.le_of_ble_eq_true rfl⟩) ?_
    refine z_if_eq (tgt := 22) hx hb dX3_signedColumn_15 (by decide) (zb_r _) (fun c_3 => ?_) (fun c_3 => ?_)
    · have c_3 := zb_0 c_3
      refine lv_iconst (v := iI 1) hx hb dX3_signedColumn_22 (by rfl) ?_
      refine va_calli (va_runV (As := [.int (iI 1)]) (rest := []) ⟨hx, hb, hml, hown, hts⟩ (kX3_holds l D a kc th cn tt ce co it we tk fv _ 1 (by omega)) (cwV 1 hts (lw_V q838 q840 qs11 q33 q841) rfl rfl rfl (by decide +kernel) ⟨Nat.le_of_ble_eq_true rfl, Nat.le_of_ble_eq_true rfl⟩) ⟨mW_blind, w_recv hK hW 0 (by decide) rfl rfl, mW_pre hW hK hJ.any⟩ rfl rfl hl.1 rfl (lv_room (Nat.le_of_ble_eq_true rfl)) dX3_signedColumn_23 ⟨Nat.le_of_ble_eq_true rfl, Nat.le_of_ble_eq_true rfl⟩) hS (fun q _ h => RA.mono hS.1 q h) (RA.mono hS.1) (fun r9 u9 t9 H locs ht9 hvm9 hr9 hB9 hz9 hk9 hS => ?_)
      subst hr9
      have hW : RW D clz mL a (mct a kc 1 cn tt ce co it we tk fv) H := by rw [← ht9]; exact hB9
      refine z_as 0 (by decide) ?_
      refine z_if_eq (tgt := 37) hx hb dX3_signedColumn_26 (by decide) (by decide) (fun _ => ?_) (fun h9 => absurd h9 (by decide))
      refine lv_iconst (v := iI 0) hx hb dX3_signedColumn_37 (by rfl) ?_
      have hz9 : cdX row i = 1 := by unfold cdX; (repeat' split) <;> omega
      rw [hz9]
      exact z_retW hx hb hr hlk hW hS (by rw [if_neg (by decide)]) dX3_signedColumn_38
    · have c_3 := zb_1 c_3
      refine lv_iconst (v := iI 0) hx hb dX3_signedColumn_18 (by rfl) ?_
      refine lv_goto (tgt := 23) hx hb dX3_signedColumn_19 (by decide) ?_
      refine va_calli (va_runV (As := [.int (iI 0)]) (rest := []) ⟨hx, hb, hml, hown, hts⟩ (kX3_holds l D a kc th cn tt ce co it we tk fv _ 0 (by omega)) (cwV 1 hts (lw_V q838 q840 qs11 q33 q841) rfl rfl rfl (by decide +kernel) ⟨Nat.le_of_ble_eq_true rfl, Nat.le_of_ble_eq_true rfl⟩) ⟨mW_blind, w_recv hK hW 0 (by decide) rfl rfl, mW_pre hW hK hJ.any⟩ rfl rfl hl.1 rfl (lv_room (Nat.le_of_ble_eq_true rfl)) dX3_signedColumn_23 ⟨Nat.le_of_ble_eq_true rfl, Nat.le_of_ble_eq_true rfl⟩) hS (fun q _ h => RA.mono hS.1 q h) (RA.mono hS.1) (fun r9 u9 t9 H locs ht9 hvm9 hr9 hB9 hz9 hk9 hS => ?_)
      subst hr9
      have hW : RW D clz mL a (mct a kc 0 cn tt ce co it we tk fv) H := by rw [← ht9]; exact hB9
      refine z_as 1 (by decide) ?_
      refine z_if_eq (tgt := 37) hx hb dX3_signedColumn_26 (by decide) (by decide) (fun h9 => absurd h9 (by decide)) (fun _ => ?_)
      refine lv_iload_n hx hb dX3_signedColumn_29 rfl (lv_at hl 1 rfl) ?_
      refine lv_iload_n hx hb dX3_signedColumn_30 rfl (lv_at hl 2 rfl) ?_
      refine z_cs (W.runS (As := [.int (iI row), .int (iI i)]) (rest := []) ⟨hx, hb, hml, hown, hts⟩ (kX3_signedColumnOf l row i (by omega) (by omega)) (va_cwS 2 hts (lw_S q973 q974 q33 q975) rfl rfl rfl (by decide +kernel) ⟨Nat.le_of_ble_eq_true rfl, Nat.le_of_ble_eq_true rfl⟩) ⟨fun _ _ _ _ q => q, fun _ _ _ => ⟨rfl, trivial⟩⟩ rfl rfl hl.1 rfl (lv_room (Nat.le_of_ble_eq_true rfl)) dX3_signedColumn_31 ⟨Nat.le_of_ble_eq_true rfl, Nat.le_of_ble_eq_true rfl⟩) ?_
      refine lv_goto (tgt := 38) hx hb dX3_signedColumn_34 (by decide) ?_
      have hz9 : cdX row i = 0 := by unfold cdX; (repeat' split) <;> omega
      rw [hz9]
      exact z_retW hx hb hr hlk hW hS (by rw [if_pos rfl]) dX3_signedColumn_38
set_option maxHeartbeats 4000000 in
set_option maxRecDepth 100000 in
theorem kX3_sign (l : Launch) (D : va_G) (a : Nat → Nat) (kc : Nat → ClassId) (th : Int) (cn tt ce co it we tk fv : Int → Int) (sz : Nat) (row i : Int) (h_row : -2147483648 ≤ row ∧ row ≤ 2147483647) (h_i : -2147483648 ≤ i ∧ i ≤ 2147483647) : Met l yX3_sign (ws_ yX3_sign cX3_sign 3 (some .int)) ({ frames := 15, cells := 0, slots := 0, locals := 280 }) (va_Pc [.ref (a 0), .int (iI row), .int (iI i)] (mW D a kc th cn tt ce co it we tk fv sz)) (va_Qi (fun (r : Int32) (_ : Unit) => r = iI (if cdX row i = 0 then mSgn row i else 0)) (fun (_ : Unit) t8 => RW D clz mL a (mct a kc (cdX row i) cn tt ce co it we tk fv) t8.heap) (RA mL a sz)) 0 0 (RA mL a sz) := by
  refine Met.ofW (cc := cX3_sign) (maxL := 3) (ret := (some .int)) (by decide) rfl ?_
  intro p e s m args below meth c s₁ B hml hv
  obtain ⟨rfl, hsz, hW, hK, hJ0⟩ := hv
  subst hsz
  have hJ := hJ0.self (sz := s.heap.size)
  have hS : va_S (RA mL a s.heap.size) s.heap s.heap [] := va_S.rf
  have hx := B.exec
  have hb := B.bytes
  have hr := B.returns
  have hlk := B.notSynchronized
  have hts := atoms_spec (ws := (ws_ yX3_sign cX3_sign 3 (some .int))) B.pre
  have hts : ∀ w ∈ lw_all, w.before _ s = true := fun w h => hts w (List.mem_cons_of_mem _ h)
  have hown : s.vm.findClass RX3 = some m.cls := findClass_of_methodNamed B.named
  have hl := lv_entry ([.ref (a 0), .int (iI row), .int (iI i)]) (n := 3) (Nat.le_of_ble_eq_true rfl)
  rw [lg_entry_eq]
  generalize (lg_sl ([.ref (a 0), .int (iI row), .int (iI i)]) ++ List.replicate (3 - (lg_sl ([.ref (a 0), .int (iI row), .int (iI i)])).length) Slot.unset).toArray = ls at hl ⊢
  have hl : lv_has ls 3 [(0, .ref (a 0)), (1, .int (iI row)), (2, .int (iI i))] := hl
  refine lv_aload_n hx hb dX3_sign_0 rfl (lv_at hl 0 rfl) ?_
  refine lv_iload_n hx hb dX3_sign_1 rfl (lv_at hl 1 rfl) ?_
  refine lv_iconst (v := iI 5) hx hb dX3_sign_2 (by rfl) ?_
  refine z_cs (W.runS (As := [.int (iI row), .int (iI 5)]) (rest := [.ref (a 0)]) ⟨hx, hb, hml, hown, hts⟩ (kX3_isIn l row 5 (by omega) (by omega)) (va_cwS 2 hts (lw_S q834 q835 q33 q836) rfl rfl rfl (by decide +kernel) ⟨Nat.le_of_ble_eq_true rfl, Nat.le_of_ble_eq_true rfl⟩) ⟨fun _ _ _ _ q => q, fun _ _ _ => ⟨rfl, trivial⟩⟩ rfl rfl hl.1 rfl (lv_room (Nat.le_of_ble_eq_true rfl)) dX3_sign_3 ⟨Nat.le_of_ble_eq_true rfl, Nat.le_of_ble_eq_true rfl⟩) ?_
  refine z_if_eq (tgt := 22) hx hb dX3_sign_6 (by decide) (zb_r _) (fun c_1 => ?_) (fun c_1 => ?_)
  · have c_1 := zb_0 c_1
    refine lv_iconst (v := iI 1) hx hb dX3_sign_22 (by rfl) ?_
    refine va_calli (va_runV (As := [.int (iI 1)]) (rest := []) ⟨hx, hb, hml, hown, hts⟩ (kX3_holds l D a kc th cn tt ce co it we tk fv _ 1 (by omega)) (cwV 1 hts (lw_V q838 q840 qs11 q33 q841) rfl rfl rfl (by decide +kernel) ⟨Nat.le_of_ble_eq_true rfl, Nat.le_of_ble_eq_true rfl⟩) ⟨mW_blind, w_recv hK hW 0 (by decide) rfl rfl, mW_pre hW hK hJ.any⟩ rfl rfl hl.1 rfl (lv_room (Nat.le_of_ble_eq_true rfl)) dX3_sign_23 ⟨Nat.le_of_ble_eq_true rfl, Nat.le_of_ble_eq_true rfl⟩) hS (fun q _ h => RA.mono hS.1 q h) (RA.mono hS.1) (fun r9 u9 t9 H locs ht9 hvm9 hr9 hB9 hz9 hk9 hS => ?_)
    subst hr9
    have hW : RW D clz mL a (mct a kc 1 cn tt ce co it we tk fv) H := by rw [← ht9]; exact hB9
    refine z_as 0 (by decide) ?_
    refine z_if_eq (tgt := 37) hx hb dX3_sign_26 (by decide) (by decide) (fun _ => ?_) (fun h9 => absurd h9 (by decide))
    refine lv_iconst (v := iI 0) hx hb dX3_sign_37 (by rfl) ?_
    have hz9 : cdX row i = 1 := by unfold cdX; (repeat' split) <;> omega
    rw [hz9]
    exact z_retW hx hb hr hlk hW hS (by rw [if_neg (by decide)]) dX3_sign_38
  · have c_1 := zb_1 c_1
    refine lv_iload_n hx hb dX3_sign_9 rfl (lv_at hl 2 rfl) ?_
    refine lv_bipush (v := iI 64) hx hb dX3_sign_10 (by rfl) ?_
    refine z_cs (W.runS (As := [.int (iI i), .int (iI 64)]) (rest := [.ref (a 0)]) ⟨hx, hb, hml, hown, hts⟩ (kX3_isIn l i 64 (by omega) (by omega)) (va_cwS 2 hts (lw_S q834 q835 q33 q836) rfl rfl rfl (by decide +kernel) ⟨Nat.le_of_ble_eq_true rfl, Nat.le_of_ble_eq_true rfl⟩) ⟨fun _ _ _ _ q => q, fun _ _ _ => ⟨rfl, trivial⟩⟩ rfl rfl hl.1 rfl (lv_room (Nat.le_of_ble_eq_true rfl)) dX3_sign_12 ⟨Nat.le_of_ble_eq_true rfl, Nat.le_of_ble_eq_true rfl⟩) ?_
    refine z_if_eq (tgt := 22) hx hb dX3_sign_15 (by decide) (zb_r _) (fun c_3 => ?_) (fun c_3 => ?_)
    · have c_3 := zb_0 c_3
      refine lv_iconst (v := iI 1) hx hb dX3_sign_22 (by rfl) ?_
      refine va_calli (va_runV (As := [.int (iI 1)]) (rest := []) ⟨hx, hb, hml, hown, hts⟩ (kX3_holds l D a kc th cn tt ce co it we tk fv _ 1 (by omega)) (cwV 1 hts (lw_V q838 q840 qs11 q33 q841) rfl rfl rfl (by decide +kernel) ⟨Nat.le_of_ble_eq_true rfl, Nat.le_of_ble_eq_true rfl⟩) ⟨mW_blind, w_recv hK hW 0 (by decide) rfl rfl, mW_pre hW hK hJ.any⟩ rfl rfl hl.1 rfl (lv_room (Nat.le_of_ble_eq_true rfl)) dX3_sign_23 ⟨Nat.le_of_ble_eq_true rfl, Nat.le_of_ble_eq_true rfl⟩) hS (fun q _ h => RA.mono hS.1 q h) (RA.mono hS.1) (fun r9 u9 t9 H locs ht9 hvm9 hr9 hB9 hz9 hk9 hS => ?_)
      subst hr9
      have hW : RW D clz mL a (mct a kc 1 cn tt ce co it we tk fv) H := by rw [← ht9]; exact hB9
      refine z_as 0 (by decide) ?_
      refine z_if_eq (tgt := 37) hx hb dX3_sign_26 (by decide) (by decide) (fun _ => ?_) (fun h9 => absurd h9 (by decide))
      refine lv_iconst (v := iI 0) hx hb dX3_sign_37 (by rfl) ?_
      have hz9 : cdX row i = 1 := by unfold cdX; (repeat' split) <;> omega
      rw [hz9]
      exact z_retW hx hb hr hlk hW hS (by rw [if_neg (by decide)]) dX3_sign_38
    · have c_3 := zb_1 c_3
      refine lv_iconst (v := iI 0) hx hb dX3_sign_18 (by rfl) ?_
      refine lv_goto (tgt := 23) hx hb dX3_sign_19 (by decide) ?_
      refine va_calli (va_runV (As := [.int (iI 0)]) (rest := []) ⟨hx, hb, hml, hown, hts⟩ (kX3_holds l D a kc th cn tt ce co it we tk fv _ 0 (by omega)) (cwV 1 hts (lw_V q838 q840 qs11 q33 q841) rfl rfl rfl (by decide +kernel) ⟨Nat.le_of_ble_eq_true rfl, Nat.le_of_ble_eq_true rfl⟩) ⟨mW_blind, w_recv hK hW 0 (by decide) rfl rfl, mW_pre hW hK hJ.any⟩ rfl rfl hl.1 rfl (lv_room (Nat.le_of_ble_eq_true rfl)) dX3_sign_23 ⟨Nat.le_of_ble_eq_true rfl, Nat.le_of_ble_eq_true rfl⟩) hS (fun q _ h => RA.mono hS.1 q h) (RA.mono hS.1) (fun r9 u9 t9 H locs ht9 hvm9 hr9 hB9 hz9 hk9 hS => ?_)
      subst hr9
      have hW : RW D clz mL a (mct a kc 0 cn tt ce co it we tk fv) H := by rw [← ht9]; exact hB9
      refine z_as 1 (by decide) ?_
      refine z_if_eq (tgt := 37) hx hb dX3_sign_26 (by decide) (by decide) (fun h9 => absurd h9 (by decide)) (fun _ => ?_)
      refine lv_iload_n hx hb dX3_sign_29 rfl (lv_at hl 1 rfl) ?_
      refine lv_iload_n hx hb dX3_sign_30 rfl (lv_at hl 2 rfl) ?_
      refine z_cs (W.runS (As := [.int (iI row), .int (iI i)]) (rest := []) ⟨hx, hb, hml, hown, hts⟩ (kX3_signOf l row i (by omega) (by omega)) (va_cwS 2 hts (lw_S q980 q981 q33 q982) rfl rfl rfl (by decide +kernel) ⟨Nat.le_of_ble_eq_true rfl, Nat.le_of_ble_eq_true rfl⟩) ⟨fun _ _ _ _ q => q, fun _ _ _ => ⟨rfl, trivial⟩⟩ rfl rfl hl.1 rfl (lv_room (Nat.le_of_ble_eq_true rfl)) dX3_sign_31 ⟨Nat.le_of_ble_eq_true rfl, Nat.le_of_ble_eq_true rfl⟩) ?_
      refine lv_goto (tgt := 38) hx hb dX3_sign_34 (by decide) ?_
      have hz9 : cdX row i = 0 := by unfold cdX; (repeat' split) <;> omega
      rw [hz9]
      exact z_retW hx hb hr hlk hW hS (by rw [if_pos rfl]) dX3_sign_38
set_option maxHeartbeats 4000000 in
set_option maxRecDepth 100000 in
theorem kX3_cell (l : Launch) (D : va_G) (a : Nat → Nat) (kc : Nat → ClassId) (th : Int) (cn tt ce co it we tk fv : Int → Int) (sz : Nat) (st lev row col : Int) (h_st : -2147483648 ≤ st ∧ st ≤ 2147483647) (h_lev : -2147483648 ≤ lev ∧ lev ≤ 2147483647) (h_row : -2147483648 ≤ row ∧ row ≤ 2147483647) (h_col : -2147483648 ≤ col ∧ col ≤ 2147483647) : Met l yX3_cell (ws_ yX3_cell cX3_cell 6 (some .int)) ({ frames := 15, cells := 0, slots := 0, locals := 280 }) (va_Pc [.ref (a 0), .int (iI st), .int (iI lev), .int (iI row), .int (iI col)] (mW D a kc th cn tt ce co it we tk fv sz)) (va_Qi (fun (r : Int32) (_ : Unit) => r = iI (if cdCell st lev row col = 0 then ce (72 * st + 24 * lev + 8 * row + col) else 0)) (fun (_ : Unit) t8 => RW D clz mL a (mct a kc (cdCell st lev row col) cn tt ce co it we tk fv) t8.heap) (RA mL a sz)) 0 0 (RA mL a sz) := by
  refine Met.ofW (cc := cX3_cell) (maxL := 6) (ret := (some .int)) (by decide) rfl ?_
  intro p e s m args below meth c s₁ B hml hv
  obtain ⟨rfl, hsz, hW, hK, hJ0⟩ := hv
  subst hsz
  have hJ := hJ0.self (sz := s.heap.size)
  have hS : va_S (RA mL a s.heap.size) s.heap s.heap [] := va_S.rf
  have hx := B.exec
  have hb := B.bytes
  have hr := B.returns
  have hlk := B.notSynchronized
  have hts := atoms_spec (ws := (ws_ yX3_cell cX3_cell 6 (some .int))) B.pre
  have hts : ∀ w ∈ lw_all, w.before _ s = true := fun w h => hts w (List.mem_cons_of_mem _ h)
  have hown : s.vm.findClass RX3 = some m.cls := findClass_of_methodNamed B.named
  have hl := lv_entry ([.ref (a 0), .int (iI st), .int (iI lev), .int (iI row), .int (iI col)]) (n := 6) (Nat.le_of_ble_eq_true rfl)
  rw [lg_entry_eq]
  generalize (lg_sl ([.ref (a 0), .int (iI st), .int (iI lev), .int (iI row), .int (iI col)]) ++ List.replicate (6 - (lg_sl ([.ref (a 0), .int (iI st), .int (iI lev), .int (iI row), .int (iI col)])).length) Slot.unset).toArray = ls at hl ⊢
  have hl : lv_has ls 6 [(0, .ref (a 0)), (1, .int (iI st)), (2, .int (iI lev)), (3, .int (iI row)), (4, .int (iI col))] := hl
  refine lv_iload_n hx hb dX3_cell_0 rfl (lv_at hl 1 rfl) ?_
  refine z_cs (W.runS (As := [.int (iI st)]) (rest := []) ⟨hx, hb, hml, hown, hts⟩ (kX3_isStream l st (by omega)) (va_cwS 1 hts (lw_S q831 q832 q33 q833) rfl rfl rfl (by decide +kernel) ⟨Nat.le_of_ble_eq_true rfl, Nat.le_of_ble_eq_true rfl⟩) ⟨fun _ _ _ _ q => q, fun _ _ _ => ⟨rfl, trivial⟩⟩ rfl rfl hl.1 rfl (lv_room (Nat.le_of_ble_eq_true rfl)) dX3_cell_1 ⟨Nat.le_of_ble_eq_true rfl, Nat.le_of_ble_eq_true rfl⟩) ?_
  refine z_if_eq (tgt := 37) hx hb dX3_cell_4 (by decide) (zb_r _) (fun c_1 => ?_) (fun c_1 => ?_)
  · have c_1 := zb_0 c_1
    refine lv_iconst (v := iI 0) hx hb dX3_cell_37 (by rfl) ?_
    refine lv_istore (lv' := [(5, .int (iI 0)), (0, .ref (a 0)), (1, .int (iI st)), (2, .int (iI lev)), (3, .int (iI row)), (4, .int (iI col))]) hx hb dX3_cell_38 hl (by decide) rfl (fun ls hl => ?_)
    refine lv_aload_n hx hb dX3_cell_40 rfl (lv_at hl 1 rfl) ?_
    refine lv_iload hx hb dX3_cell_41 (lv_at hl 0 rfl) ?_
    refine z_if_eq (tgt := 50) hx hb dX3_cell_43 (by decide) (by decide) (fun _ => ?_) (fun h9 => absurd h9 (by decide))
    refine lv_iconst (v := iI 1) hx hb dX3_cell_50 (by rfl) ?_
    refine va_calli (va_runV (As := [.int (iI 1)]) (rest := []) ⟨hx, hb, hml, hown, hts⟩ (kX3_holds l D a kc th cn tt ce co it we tk fv _ 1 (by omega)) (cwV 1 hts (lw_V q838 q840 qs11 q33 q841) rfl rfl rfl (by decide +kernel) ⟨Nat.le_of_ble_eq_true rfl, Nat.le_of_ble_eq_true rfl⟩) ⟨mW_blind, w_recv hK hW 0 (by decide) rfl rfl, mW_pre hW hK hJ.any⟩ rfl rfl hl.1 rfl (lv_room (Nat.le_of_ble_eq_true rfl)) dX3_cell_51 ⟨Nat.le_of_ble_eq_true rfl, Nat.le_of_ble_eq_true rfl⟩) hS (fun q _ h => RA.mono hS.1 q h) (RA.mono hS.1) (fun r9 u9 t9 H locs ht9 hvm9 hr9 hB9 hz9 hk9 hS => ?_)
    subst hr9
    have hW : RW D clz mL a (mct a kc 1 cn tt ce co it we tk fv) H := by rw [← ht9]; exact hB9
    refine z_as 0 (by decide) ?_
    refine z_if_eq (tgt := 73) hx hb dX3_cell_54 (by decide) (by decide) (fun _ => ?_) (fun h9 => absurd h9 (by decide))
    refine lv_iconst (v := iI 0) hx hb dX3_cell_73 (by rfl) ?_
    have hz9 : cdCell st lev row col = 1 := by unfold cdCell; (repeat' split) <;> omega
    rw [hz9]
    exact z_retW hx hb hr hlk hW hS (by rw [if_neg (by decide)]) dX3_cell_74
  · have c_1 := zb_1 c_1
    refine lv_iload_n hx hb dX3_cell_7 rfl (lv_at hl 2 rfl) ?_
    refine lv_iconst (v := iI 3) hx hb dX3_cell_8 (by rfl) ?_
    refine z_cs (W.runS (As := [.int (iI lev), .int (iI 3)]) (rest := []) ⟨hx, hb, hml, hown, hts⟩ (kX3_isIn l lev 3 (by omega) (by omega)) (va_cwS 2 hts (lw_S q834 q835 q33 q836) rfl rfl rfl (by decide +kernel) ⟨Nat.le_of_ble_eq_true rfl, Nat.le_of_ble_eq_true rfl⟩) ⟨fun _ _ _ _ q => q, fun _ _ _ => ⟨rfl, trivial⟩⟩ rfl rfl hl.1 rfl (lv_room (Nat.le_of_ble_eq_true rfl)) dX3_cell_9 ⟨Nat.le_of_ble_eq_true rfl, Nat.le_of_ble_eq_true rfl⟩) ?_
    refine z_if_eq (tgt := 37) hx hb dX3_cell_12 (by decide) (zb_r _) (fun c_4 => ?_) (fun c_4 => ?_)
    · have c_4 := zb_0 c_4
      refine lv_iconst (v := iI 0) hx hb dX3_cell_37 (by rfl) ?_
      refine lv_istore (lv' := [(5, .int (iI 0)), (0, .ref (a 0)), (1, .int (iI st)), (2, .int (iI lev)), (3, .int (iI row)), (4, .int (iI col))]) hx hb dX3_cell_38 hl (by decide) rfl (fun ls hl => ?_)
      refine lv_aload_n hx hb dX3_cell_40 rfl (lv_at hl 1 rfl) ?_
      refine lv_iload hx hb dX3_cell_41 (lv_at hl 0 rfl) ?_
      refine z_if_eq (tgt := 50) hx hb dX3_cell_43 (by decide) (by decide) (fun _ => ?_) (fun h9 => absurd h9 (by decide))
      refine lv_iconst (v := iI 1) hx hb dX3_cell_50 (by rfl) ?_
      refine va_calli (va_runV (As := [.int (iI 1)]) (rest := []) ⟨hx, hb, hml, hown, hts⟩ (kX3_holds l D a kc th cn tt ce co it we tk fv _ 1 (by omega)) (cwV 1 hts (lw_V q838 q840 qs11 q33 q841) rfl rfl rfl (by decide +kernel) ⟨Nat.le_of_ble_eq_true rfl, Nat.le_of_ble_eq_true rfl⟩) ⟨mW_blind, w_recv hK hW 0 (by decide) rfl rfl, mW_pre hW hK hJ.any⟩ rfl rfl hl.1 rfl (lv_room (Nat.le_of_ble_eq_true rfl)) dX3_cell_51 ⟨Nat.le_of_ble_eq_true rfl, Nat.le_of_ble_eq_true rfl⟩) hS (fun q _ h => RA.mono hS.1 q h) (RA.mono hS.1) (fun r9 u9 t9 H locs ht9 hvm9 hr9 hB9 hz9 hk9 hS => ?_)
      subst hr9
      have hW : RW D clz mL a (mct a kc 1 cn tt ce co it we tk fv) H := by rw [← ht9]; exact hB9
      refine z_as 0 (by decide) ?_
      refine z_if_eq (tgt := 73) hx hb dX3_cell_54 (by decide) (by decide) (fun _ => ?_) (fun h9 => absurd h9 (by decide))
      refine lv_iconst (v := iI 0) hx hb dX3_cell_73 (by rfl) ?_
      have hz9 : cdCell st lev row col = 1 := by unfold cdCell; (repeat' split) <;> omega
      rw [hz9]
      exact z_retW hx hb hr hlk hW hS (by rw [if_neg (by decide)]) dX3_cell_74
    · have c_4 := zb_1 c_4
      refine lv_iload_n hx hb dX3_cell_15 rfl (lv_at hl 3 rfl) ?_
      refine lv_iconst (v := iI 3) hx hb dX3_cell_16 (by rfl) ?_
      refine z_cs (W.runS (As := [.int (iI row), .int (iI 3)]) (rest := []) ⟨hx, hb, hml, hown, hts⟩ (kX3_isIn l row 3 (by omega) (by omega)) (va_cwS 2 hts (lw_S q834 q835 q33 q836) rfl rfl rfl (by decide +kernel) ⟨Nat.le_of_ble_eq_true rfl, Nat.le_of_ble_eq_true rfl⟩) ⟨fun _ _ _ _ q => q, fun _ _ _ => ⟨rfl, trivial⟩⟩ rfl rfl hl.1 rfl (lv_room (Nat.le_of_ble_eq_true rfl)) dX3_cell_17 ⟨Nat.le_of_ble_eq_true rfl, Nat.le_of_ble_eq_true rfl⟩) ?_
      refine z_if_eq (tgt := 37) hx hb dX3_cell_20 (by decide) (zb_r _) (fun c_7 => ?_) (fun c_7 => ?_)
      · have c_7 := zb_0 c_7
        refine lv_iconst (v := iI 0) hx hb dX3_cell_37 (by rfl) ?_
        refine lv_istore (lv' := [(5, .int (iI 0)), (0, .ref (a 0)), (1, .int (iI st)), (2, .int (iI lev)), (3, .int (iI row)), (4, .int (iI col))]) hx hb dX3_cell_38 hl (by decide) rfl (fun ls hl => ?_)
        refine lv_aload_n hx hb dX3_cell_40 rfl (lv_at hl 1 rfl) ?_
        refine lv_iload hx hb dX3_cell_41 (lv_at hl 0 rfl) ?_
        refine z_if_eq (tgt := 50) hx hb dX3_cell_43 (by decide) (by decide) (fun _ => ?_) (fun h9 => absurd h9 (by decide))
        refine lv_iconst (v := iI 1) hx hb dX3_cell_50 (by rfl) ?_
        refine va_calli (va_runV (As := [.int (iI 1)]) (rest := []) ⟨hx, hb, hml, hown, hts⟩ (kX3_holds l D a kc th cn tt ce co it we tk fv _ 1 (by omega)) (cwV 1 hts (lw_V q838 q840 qs11 q33 q841) rfl rfl rfl (by decide +kernel) ⟨Nat.le_of_ble_eq_true rfl, Nat.le_of_ble_eq_true rfl⟩) ⟨mW_blind, w_recv hK hW 0 (by decide) rfl rfl, mW_pre hW hK hJ.any⟩ rfl rfl hl.1 rfl (lv_room (Nat.le_of_ble_eq_true rfl)) dX3_cell_51 ⟨Nat.le_of_ble_eq_true rfl, Nat.le_of_ble_eq_true rfl⟩) hS (fun q _ h => RA.mono hS.1 q h) (RA.mono hS.1) (fun r9 u9 t9 H locs ht9 hvm9 hr9 hB9 hz9 hk9 hS => ?_)
        subst hr9
        have hW : RW D clz mL a (mct a kc 1 cn tt ce co it we tk fv) H := by rw [← ht9]; exact hB9
        refine z_as 0 (by decide) ?_
        refine z_if_eq (tgt := 73) hx hb dX3_cell_54 (by decide) (by decide) (fun _ => ?_) (fun h9 => absurd h9 (by decide))
        refine lv_iconst (v := iI 0) hx hb dX3_cell_73 (by rfl) ?_
        have hz9 : cdCell st lev row col = 1 := by unfold cdCell; (repeat' split) <;> omega
        rw [hz9]
        exact z_retW hx hb hr hlk hW hS (by rw [if_neg (by decide)]) dX3_cell_74
      · have c_7 := zb_1 c_7
        refine lv_iload hx hb dX3_cell_23 (lv_at hl 4 rfl) ?_
        refine lv_bipush (v := iI 8) hx hb dX3_cell_25 (by rfl) ?_
        refine z_cs (W.runS (As := [.int (iI col), .int (iI 8)]) (rest := []) ⟨hx, hb, hml, hown, hts⟩ (kX3_isIn l col 8 (by omega) (by omega)) (va_cwS 2 hts (lw_S q834 q835 q33 q836) rfl rfl rfl (by decide +kernel) ⟨Nat.le_of_ble_eq_true rfl, Nat.le_of_ble_eq_true rfl⟩) ⟨fun _ _ _ _ q => q, fun _ _ _ => ⟨rfl, trivial⟩⟩ rfl rfl hl.1 rfl (lv_room (Nat.le_of_ble_eq_true rfl)) dX3_cell_27 ⟨Nat.le_of_ble_eq_true rfl, Nat.le_of_ble_eq_true rfl⟩) ?_
        refine z_if_eq (tgt := 37) hx hb dX3_cell_30 (by decide) (zb_r _) (fun c_10 => ?_) (fun c_10 => ?_)
        · have c_10 := zb_0 c_10
          refine lv_iconst (v := iI 0) hx hb dX3_cell_37 (by rfl) ?_
          refine lv_istore (lv' := [(5, .int (iI 0)), (0, .ref (a 0)), (1, .int (iI st)), (2, .int (iI lev)), (3, .int (iI row)), (4, .int (iI col))]) hx hb dX3_cell_38 hl (by decide) rfl (fun ls hl => ?_)
          refine lv_aload_n hx hb dX3_cell_40 rfl (lv_at hl 1 rfl) ?_
          refine lv_iload hx hb dX3_cell_41 (lv_at hl 0 rfl) ?_
          refine z_if_eq (tgt := 50) hx hb dX3_cell_43 (by decide) (by decide) (fun _ => ?_) (fun h9 => absurd h9 (by decide))
          refine lv_iconst (v := iI 1) hx hb dX3_cell_50 (by rfl) ?_
          refine va_calli (va_runV (As := [.int (iI 1)]) (rest := []) ⟨hx, hb, hml, hown, hts⟩ (kX3_holds l D a kc th cn tt ce co it we tk fv _ 1 (by omega)) (cwV 1 hts (lw_V q838 q840 qs11 q33 q841) rfl rfl rfl (by decide +kernel) ⟨Nat.le_of_ble_eq_true rfl, Nat.le_of_ble_eq_true rfl⟩) ⟨mW_blind, w_recv hK hW 0 (by decide) rfl rfl, mW_pre hW hK hJ.any⟩ rfl rfl hl.1 rfl (lv_room (Nat.le_of_ble_eq_true rfl)) dX3_cell_51 ⟨Nat.le_of_ble_eq_true rfl, Nat.le_of_ble_eq_true rfl⟩) hS (fun q _ h => RA.mono hS.1 q h) (RA.mono hS.1) (fun r9 u9 t9 H locs ht9 hvm9 hr9 hB9 hz9 hk9 hS => ?_)
          subst hr9
          have hW : RW D clz mL a (mct a kc 1 cn tt ce co it we tk fv) H := by rw [← ht9]; exact hB9
          refine z_as 0 (by decide) ?_
          refine z_if_eq (tgt := 73) hx hb dX3_cell_54 (by decide) (by decide) (fun _ => ?_) (fun h9 => absurd h9 (by decide))
          refine lv_iconst (v := iI 0) hx hb dX3_cell_73 (by rfl) ?_
          have hz9 : cdCell st lev row col = 1 := by unfold cdCell; (repeat' split) <;> omega
          rw [hz9]
          exact z_retW hx hb hr hlk hW hS (by rw [if_neg (by decide)]) dX3_cell_74
        · have c_10 := zb_1 c_10
          refine lv_iconst (v := iI 1) hx hb dX3_cell_33 (by rfl) ?_
          refine lv_goto (tgt := 38) hx hb dX3_cell_34 (by decide) ?_
          refine lv_istore (lv' := [(5, .int (iI 1)), (0, .ref (a 0)), (1, .int (iI st)), (2, .int (iI lev)), (3, .int (iI row)), (4, .int (iI col))]) hx hb dX3_cell_38 hl (by decide) rfl (fun ls hl => ?_)
          refine lv_aload_n hx hb dX3_cell_40 rfl (lv_at hl 1 rfl) ?_
          refine lv_iload hx hb dX3_cell_41 (lv_at hl 0 rfl) ?_
          refine z_if_eq (tgt := 50) hx hb dX3_cell_43 (by decide) (by decide) (fun h9 => absurd h9 (by decide)) (fun _ => ?_)
          refine lv_iconst (v := iI 0) hx hb dX3_cell_46 (by rfl) ?_
          refine lv_goto (tgt := 51) hx hb dX3_cell_47 (by decide) ?_
          refine va_calli (va_runV (As := [.int (iI 0)]) (rest := []) ⟨hx, hb, hml, hown, hts⟩ (kX3_holds l D a kc th cn tt ce co it we tk fv _ 0 (by omega)) (cwV 1 hts (lw_V q838 q840 qs11 q33 q841) rfl rfl rfl (by decide +kernel) ⟨Nat.le_of_ble_eq_true rfl, Nat.le_of_ble_eq_true rfl⟩) ⟨mW_blind, w_recv hK hW 0 (by decide) rfl rfl, mW_pre hW hK hJ.any⟩ rfl rfl hl.1 rfl (lv_room (Nat.le_of_ble_eq_true rfl)) dX3_cell_51 ⟨Nat.le_of_ble_eq_true rfl, Nat.le_of_ble_eq_true rfl⟩) hS (fun q _ h => RA.mono hS.1 q h) (RA.mono hS.1) (fun r9 u9 t9 H locs ht9 hvm9 hr9 hB9 hz9 hk9 hS => ?_)
          subst hr9
          have hW : RW D clz mL a (mct a kc 0 cn tt ce co it we tk fv) H := by rw [← ht9]; exact hB9
          refine z_as 1 (by decide) ?_
          refine z_if_eq (tgt := 73) hx hb dX3_cell_54 (by decide) (by decide) (fun h9 => absurd h9 (by decide)) (fun _ => ?_)
          refine lv_aload_n hx hb dX3_cell_57 rfl (lv_at hl 1 rfl) ?_
          refine w_getf (ci := 0) (v := .ref (a 3)) (C := RX3) (T := TX3) (N := 9) hx hb hts in_X3 hown hK hW 0 (by decide) rfl rfl 3 (by decide) (hts _ q798) (fun _ h9 => h9) rfl dX3_cell_58 ?_
          refine lv_iload_n hx hb dX3_cell_61 rfl (lv_at hl 2 rfl) ?_
          refine lv_iload_n hx hb dX3_cell_62 rfl (lv_at hl 3 rfl) ?_
          refine lv_iload_n hx hb dX3_cell_63 rfl (lv_at hl 4 rfl) ?_
          refine lv_iload hx hb dX3_cell_64 (lv_at hl 5 rfl) ?_
          refine z_cs (W.runS (As := [.int (iI st), .int (iI lev), .int (iI row), .int (iI col)]) (rest := [.ref (a 3)]) ⟨hx, hb, hml, hown, hts⟩ (kX3_placeOf l st lev row col) (va_cwS 4 hts (lw_S q863 q864 q33 q865) rfl rfl rfl (by decide +kernel) ⟨Nat.le_of_ble_eq_true rfl, Nat.le_of_ble_eq_true rfl⟩) ⟨fun _ _ _ _ q => q, fun _ _ _ => ⟨rfl, trivial⟩⟩ rfl rfl hl.1 rfl (lv_room (Nat.le_of_ble_eq_true rfl)) dX3_cell_66 ⟨Nat.le_of_ble_eq_true rfl, Nat.le_of_ble_eq_true rfl⟩) ?_
          refine w_iald hx hb hK hW 3 0 (by decide) (n := 288) (g := ce) rfl rfl (by omega) (by decide) dX3_cell_69 ?_
          refine lv_goto (tgt := 74) hx hb dX3_cell_70 (by decide) ?_
          have hz9 : cdCell st lev row col = 0 := by unfold cdCell; (repeat' split) <;> omega
          rw [hz9]
          exact z_retW hx hb hr hlk hW hS (by rw [if_pos rfl]) dX3_cell_74
set_option maxHeartbeats 4000000 in
set_option maxRecDepth 100000 in
theorem kX3_estimate (l : Launch) (D : va_G) (a : Nat → Nat) (kc : Nat → ClassId) (th : Int) (cn tt ce co it we tk fv : Int → Int) (sz : Nat) (st lev h : Int) (h_st : -2147483648 ≤ st ∧ st ≤ 2147483647) (h_lev : -2147483648 ≤ lev ∧ lev ≤ 2147483647) (h_h : -2147483648 ≤ h ∧ h ≤ 2147483647) (hce : ∀ i9 : Int, 0 ≤ ce i9 ∧ ce i9 ≤ 2000000) : Met l yX3_estimate (ws_ yX3_estimate cX3_estimate 5 (some .int)) ({ frames := 15, cells := 0, slots := 0, locals := 280 }) (va_Pc [.ref (a 0), .int (iI st), .int (iI lev), .int (iI h)] (mW D a kc th cn tt ce co it we tk fv sz)) (va_Qi (fun (r : Int32) (_ : Unit) => r = iI (if cdE st lev h = 0 then mEst cn ce st lev h else 0)) (fun (_ : Unit) t8 => RW D clz mL a (mct a kc (cdE st lev h) cn tt ce co it we tk fv) t8.heap) (RA mL a sz)) 0 0 (RA mL a sz) := by
  refine Met.ofW (cc := cX3_estimate) (maxL := 5) (ret := (some .int)) (by decide) rfl ?_
  intro p e s m args below meth c s₁ B hml hv
  obtain ⟨rfl, hsz, hW, hK, hJ0⟩ := hv
  subst hsz
  have hJ := hJ0.self (sz := s.heap.size)
  have hS : va_S (RA mL a s.heap.size) s.heap s.heap [] := va_S.rf
  have hx := B.exec
  have hb := B.bytes
  have hr := B.returns
  have hlk := B.notSynchronized
  have hts := atoms_spec (ws := (ws_ yX3_estimate cX3_estimate 5 (some .int))) B.pre
  have hts : ∀ w ∈ lw_all, w.before _ s = true := fun w h => hts w (List.mem_cons_of_mem _ h)
  have hown : s.vm.findClass RX3 = some m.cls := findClass_of_methodNamed B.named
  have hl := lv_entry ([.ref (a 0), .int (iI st), .int (iI lev), .int (iI h)]) (n := 5) (Nat.le_of_ble_eq_true rfl)
  rw [lg_entry_eq]
  generalize (lg_sl ([.ref (a 0), .int (iI st), .int (iI lev), .int (iI h)]) ++ List.replicate (5 - (lg_sl ([.ref (a 0), .int (iI st), .int (iI lev), .int (iI h)])).length) Slot.unset).toArray = ls at hl ⊢
  have hl : lv_has ls 5 [(0, .ref (a 0)), (1, .int (iI st)), (2, .int (iI lev)), (3, .int (iI h))] := hl
  refine lv_iload_n hx hb dX3_estimate_0 rfl (lv_at hl 1 rfl) ?_
  refine z_cs (W.runS (As := [.int (iI st)]) (rest := []) ⟨hx, hb, hml, hown, hts⟩ (kX3_isStream l st (by omega)) (va_cwS 1 hts (lw_S q831 q832 q33 q833) rfl rfl rfl (by decide +kernel) ⟨Nat.le_of_ble_eq_true rfl, Nat.le_of_ble_eq_true rfl⟩) ⟨fun _ _ _ _ q => q, fun _ _ _ => ⟨rfl, trivial⟩⟩ rfl rfl hl.1 rfl (lv_room (Nat.le_of_ble_eq_true rfl)) dX3_estimate_1 ⟨Nat.le_of_ble_eq_true rfl, Nat.le_of_ble_eq_true rfl⟩) ?_
  refine z_if_eq (tgt := 31) hx hb dX3_estimate_4 (by decide) (zb_r _) (fun c_1 => ?_) (fun c_1 => ?_)
  · have c_1 := zb_0 c_1
    refine lv_iconst (v := iI 0) hx hb dX3_estimate_31 (by rfl) ?_
    refine lv_istore (lv' := [(4, .int (iI 0)), (0, .ref (a 0)), (1, .int (iI st)), (2, .int (iI lev)), (3, .int (iI h))]) hx hb dX3_estimate_32 hl (by decide) rfl (fun ls hl => ?_)
    refine lv_aload_n hx hb dX3_estimate_34 rfl (lv_at hl 1 rfl) ?_
    refine lv_iload hx hb dX3_estimate_35 (lv_at hl 0 rfl) ?_
    refine z_if_eq (tgt := 44) hx hb dX3_estimate_37 (by decide) (by decide) (fun _ => ?_) (fun h9 => absurd h9 (by decide))
    refine lv_iconst (v := iI 1) hx hb dX3_estimate_44 (by rfl) ?_
    refine va_calli (va_runV (As := [.int (iI 1)]) (rest := []) ⟨hx, hb, hml, hown, hts⟩ (kX3_holds l D a kc th cn tt ce co it we tk fv _ 1 (by omega)) (cwV 1 hts (lw_V q838 q840 qs11 q33 q841) rfl rfl rfl (by decide +kernel) ⟨Nat.le_of_ble_eq_true rfl, Nat.le_of_ble_eq_true rfl⟩) ⟨mW_blind, w_recv hK hW 0 (by decide) rfl rfl, mW_pre hW hK hJ.any⟩ rfl rfl hl.1 rfl (lv_room (Nat.le_of_ble_eq_true rfl)) dX3_estimate_45 ⟨Nat.le_of_ble_eq_true rfl, Nat.le_of_ble_eq_true rfl⟩) hS (fun q _ h => RA.mono hS.1 q h) (RA.mono hS.1) (fun r9 u9 t9 H locs ht9 hvm9 hr9 hB9 hz9 hk9 hS => ?_)
    subst hr9
    have hW : RW D clz mL a (mct a kc 1 cn tt ce co it we tk fv) H := by rw [← ht9]; exact hB9
    refine z_as 0 (by decide) ?_
    refine z_if_eq (tgt := 61) hx hb dX3_estimate_48 (by decide) (by decide) (fun _ => ?_) (fun h9 => absurd h9 (by decide))
    refine lv_iconst (v := iI 0) hx hb dX3_estimate_61 (by rfl) ?_
    have hz9 : cdE st lev h = 1 := by unfold cdE; (repeat' split) <;> omega
    rw [hz9]
    exact z_retW hx hb hr hlk hW hS (by rw [if_neg (by decide)]) dX3_estimate_62
  · have c_1 := zb_1 c_1
    refine lv_iload_n hx hb dX3_estimate_7 rfl (lv_at hl 2 rfl) ?_
    refine lv_bipush (v := iI 7) hx hb dX3_estimate_8 (by rfl) ?_
    refine z_cs (W.runS (As := [.int (iI lev), .int (iI 7)]) (rest := []) ⟨hx, hb, hml, hown, hts⟩ (kX3_isIn l lev 7 (by omega) (by omega)) (va_cwS 2 hts (lw_S q834 q835 q33 q836) rfl rfl rfl (by decide +kernel) ⟨Nat.le_of_ble_eq_true rfl, Nat.le_of_ble_eq_true rfl⟩) ⟨fun _ _ _ _ q => q, fun _ _ _ => ⟨rfl, trivial⟩⟩ rfl rfl hl.1 rfl (lv_room (Nat.le_of_ble_eq_true rfl)) dX3_estimate_10 ⟨Nat.le_of_ble_eq_true rfl, Nat.le_of_ble_eq_true rfl⟩) ?_
    refine z_if_eq (tgt := 31) hx hb dX3_estimate_13 (by decide) (zb_r _) (fun c_4 => ?_) (fun c_4 => ?_)
    · have c_4 := zb_0 c_4
      refine lv_iconst (v := iI 0) hx hb dX3_estimate_31 (by rfl) ?_
      refine lv_istore (lv' := [(4, .int (iI 0)), (0, .ref (a 0)), (1, .int (iI st)), (2, .int (iI lev)), (3, .int (iI h))]) hx hb dX3_estimate_32 hl (by decide) rfl (fun ls hl => ?_)
      refine lv_aload_n hx hb dX3_estimate_34 rfl (lv_at hl 1 rfl) ?_
      refine lv_iload hx hb dX3_estimate_35 (lv_at hl 0 rfl) ?_
      refine z_if_eq (tgt := 44) hx hb dX3_estimate_37 (by decide) (by decide) (fun _ => ?_) (fun h9 => absurd h9 (by decide))
      refine lv_iconst (v := iI 1) hx hb dX3_estimate_44 (by rfl) ?_
      refine va_calli (va_runV (As := [.int (iI 1)]) (rest := []) ⟨hx, hb, hml, hown, hts⟩ (kX3_holds l D a kc th cn tt ce co it we tk fv _ 1 (by omega)) (cwV 1 hts (lw_V q838 q840 qs11 q33 q841) rfl rfl rfl (by decide +kernel) ⟨Nat.le_of_ble_eq_true rfl, Nat.le_of_ble_eq_true rfl⟩) ⟨mW_blind, w_recv hK hW 0 (by decide) rfl rfl, mW_pre hW hK hJ.any⟩ rfl rfl hl.1 rfl (lv_room (Nat.le_of_ble_eq_true rfl)) dX3_estimate_45 ⟨Nat.le_of_ble_eq_true rfl, Nat.le_of_ble_eq_true rfl⟩) hS (fun q _ h => RA.mono hS.1 q h) (RA.mono hS.1) (fun r9 u9 t9 H locs ht9 hvm9 hr9 hB9 hz9 hk9 hS => ?_)
      subst hr9
      have hW : RW D clz mL a (mct a kc 1 cn tt ce co it we tk fv) H := by rw [← ht9]; exact hB9
      refine z_as 0 (by decide) ?_
      refine z_if_eq (tgt := 61) hx hb dX3_estimate_48 (by decide) (by decide) (fun _ => ?_) (fun h9 => absurd h9 (by decide))
      refine lv_iconst (v := iI 0) hx hb dX3_estimate_61 (by rfl) ?_
      have hz9 : cdE st lev h = 1 := by unfold cdE; (repeat' split) <;> omega
      rw [hz9]
      exact z_retW hx hb hr hlk hW hS (by rw [if_neg (by decide)]) dX3_estimate_62
    · have c_4 := zb_1 c_4
      refine lv_iload_n hx hb dX3_estimate_16 rfl (lv_at hl 3 rfl) ?_
      refine lv_bipush (v := iI 64) hx hb dX3_estimate_17 (by rfl) ?_
      refine lv_iload_n hx hb dX3_estimate_19 rfl (lv_at hl 2 rfl) ?_
      have hP0 := pw_pos lev
      have hP6 := pw_le (x := lev) (by omega)
      have hP7 := est_sz (x := lev) (h := h) (by omega)
      refine z_ishr hx hb dX3_estimate_20 (by omega) (by omega) ?_
      refine z_cs (W.runS (As := [.int (iI h), .int (iI (64 / 2 ^ (lev).toNat))]) (rest := []) ⟨hx, hb, hml, hown, hts⟩ (kX3_isIn l h (64 / 2 ^ (lev).toNat) (by omega) (by omega)) (va_cwS 2 hts (lw_S q834 q835 q33 q836) rfl rfl rfl (by decide +kernel) ⟨Nat.le_of_ble_eq_true rfl, Nat.le_of_ble_eq_true rfl⟩) ⟨fun _ _ _ _ q => q, fun _ _ _ => ⟨rfl, trivial⟩⟩ rfl rfl hl.1 rfl (lv_room (Nat.le_of_ble_eq_true rfl)) dX3_estimate_21 ⟨Nat.le_of_ble_eq_true rfl, Nat.le_of_ble_eq_true rfl⟩) ?_
      refine z_if_eq (tgt := 31) hx hb dX3_estimate_24 (by decide) (zb_r _) (fun c_7 => ?_) (fun c_7 => ?_)
      · have c_7 := zb_0 c_7
        refine lv_iconst (v := iI 0) hx hb dX3_estimate_31 (by rfl) ?_
        refine lv_istore (lv' := [(4, .int (iI 0)), (0, .ref (a 0)), (1, .int (iI st)), (2, .int (iI lev)), (3, .int (iI h))]) hx hb dX3_estimate_32 hl (by decide) rfl (fun ls hl => ?_)
        refine lv_aload_n hx hb dX3_estimate_34 rfl (lv_at hl 1 rfl) ?_
        refine lv_iload hx hb dX3_estimate_35 (lv_at hl 0 rfl) ?_
        refine z_if_eq (tgt := 44) hx hb dX3_estimate_37 (by decide) (by decide) (fun _ => ?_) (fun h9 => absurd h9 (by decide))
        refine lv_iconst (v := iI 1) hx hb dX3_estimate_44 (by rfl) ?_
        refine va_calli (va_runV (As := [.int (iI 1)]) (rest := []) ⟨hx, hb, hml, hown, hts⟩ (kX3_holds l D a kc th cn tt ce co it we tk fv _ 1 (by omega)) (cwV 1 hts (lw_V q838 q840 qs11 q33 q841) rfl rfl rfl (by decide +kernel) ⟨Nat.le_of_ble_eq_true rfl, Nat.le_of_ble_eq_true rfl⟩) ⟨mW_blind, w_recv hK hW 0 (by decide) rfl rfl, mW_pre hW hK hJ.any⟩ rfl rfl hl.1 rfl (lv_room (Nat.le_of_ble_eq_true rfl)) dX3_estimate_45 ⟨Nat.le_of_ble_eq_true rfl, Nat.le_of_ble_eq_true rfl⟩) hS (fun q _ h => RA.mono hS.1 q h) (RA.mono hS.1) (fun r9 u9 t9 H locs ht9 hvm9 hr9 hB9 hz9 hk9 hS => ?_)
        subst hr9
        have hW : RW D clz mL a (mct a kc 1 cn tt ce co it we tk fv) H := by rw [← ht9]; exact hB9
        refine z_as 0 (by decide) ?_
        refine z_if_eq (tgt := 61) hx hb dX3_estimate_48 (by decide) (by decide) (fun _ => ?_) (fun h9 => absurd h9 (by decide))
        refine lv_iconst (v := iI 0) hx hb dX3_estimate_61 (by rfl) ?_
        have hz9 : cdE st lev h = 1 := by unfold cdE; (repeat' split) <;> omega
        rw [hz9]
        exact z_retW hx hb hr hlk hW hS (by rw [if_neg (by decide)]) dX3_estimate_62
      · have c_7 := zb_1 c_7
        refine lv_iconst (v := iI 1) hx hb dX3_estimate_27 (by rfl) ?_
        refine lv_goto (tgt := 32) hx hb dX3_estimate_28 (by decide) ?_
        refine lv_istore (lv' := [(4, .int (iI 1)), (0, .ref (a 0)), (1, .int (iI st)), (2, .int (iI lev)), (3, .int (iI h))]) hx hb dX3_estimate_32 hl (by decide) rfl (fun ls hl => ?_)
        refine lv_aload_n hx hb dX3_estimate_34 rfl (lv_at hl 1 rfl) ?_
        refine lv_iload hx hb dX3_estimate_35 (lv_at hl 0 rfl) ?_
        refine z_if_eq (tgt := 44) hx hb dX3_estimate_37 (by decide) (by decide) (fun h9 => absurd h9 (by decide)) (fun _ => ?_)
        refine lv_iconst (v := iI 0) hx hb dX3_estimate_40 (by rfl) ?_
        refine lv_goto (tgt := 45) hx hb dX3_estimate_41 (by decide) ?_
        refine va_calli (va_runV (As := [.int (iI 0)]) (rest := []) ⟨hx, hb, hml, hown, hts⟩ (kX3_holds l D a kc th cn tt ce co it we tk fv _ 0 (by omega)) (cwV 1 hts (lw_V q838 q840 qs11 q33 q841) rfl rfl rfl (by decide +kernel) ⟨Nat.le_of_ble_eq_true rfl, Nat.le_of_ble_eq_true rfl⟩) ⟨mW_blind, w_recv hK hW 0 (by decide) rfl rfl, mW_pre hW hK hJ.any⟩ rfl rfl hl.1 rfl (lv_room (Nat.le_of_ble_eq_true rfl)) dX3_estimate_45 ⟨Nat.le_of_ble_eq_true rfl, Nat.le_of_ble_eq_true rfl⟩) hS (fun q _ h => RA.mono hS.1 q h) (RA.mono hS.1) (fun r9 u9 t9 H locs ht9 hvm9 hr9 hB9 hz9 hk9 hS => ?_)
        subst hr9
        have hW : RW D clz mL a (mct a kc 0 cn tt ce co it we tk fv) H := by rw [← ht9]; exact hB9
        refine z_as 1 (by decide) ?_
        refine z_if_eq (tgt := 61) hx hb dX3_estimate_48 (by decide) (by decide) (fun h9 => absurd h9 (by decide)) (fun _ => ?_)
        refine lv_aload_n hx hb dX3_estimate_51 rfl (lv_at hl 1 rfl) ?_
        refine lv_iload_n hx hb dX3_estimate_52 rfl (lv_at hl 2 rfl) ?_
        refine lv_iload_n hx hb dX3_estimate_53 rfl (lv_at hl 3 rfl) ?_
        refine lv_iload_n hx hb dX3_estimate_54 rfl (lv_at hl 4 rfl) ?_
        refine z_cs (W.runV (As := [.int (iI st), .int (iI lev), .int (iI h)]) (rest := []) ⟨hx, hb, hml, hown, hts⟩ (kX3_estimateOf l D a kc 0 cn tt ce co it we tk fv st lev h (by omega) (by omega) (by omega) (hP7.2 (by omega)) (by omega)) (cwV 3 hts (lw_V q846 q848 qs13 q33 q849) rfl rfl rfl (by decide +kernel) ⟨Nat.le_of_ble_eq_true rfl, Nat.le_of_ble_eq_true rfl⟩) ⟨mR_blind, w_recv hK hW 0 (by decide) rfl rfl, mR_pre hW hK⟩ rfl rfl hl.1 rfl (lv_room (Nat.le_of_ble_eq_true rfl)) dX3_estimate_55 ⟨Nat.le_of_ble_eq_true rfl, Nat.le_of_ble_eq_true rfl⟩) ?_
        refine lv_goto (tgt := 62) hx hb dX3_estimate_58 (by decide) ?_
        have hz9 : cdE st lev h = 0 := by unfold cdE; (repeat' split) <;> omega
        rw [hz9]
        exact z_retW hx hb hr hlk hW hS (by rw [if_pos rfl]) dX3_estimate_62
set_option maxHeartbeats 4000000 in
set_option maxRecDepth 100000 in
theorem kX3_levelAt (l : Launch) (f t : Int) (hf : 0 ≤ f ∧ f ≤ t) (ht : t ≤ 63) : Met l yX3_levelAt (ws_ yX3_levelAt cX3_levelAt 3 (some .int)) ({ frames := 12, cells := 0, slots := 0, locals := 160 }) (va_Pc [.int (iI f), .int (iI t)] (fun _ => True)) (vp_Si (fun r => r = iI (mLv f t 6))) 0 0 (fun _ => False) := by
  refine Met.ofW (cc := cX3_levelAt) (maxL := 3) (ret := (some .int)) (by decide) rfl ?_
  intro p e s m args below meth c s₁ B hml hv
  obtain ⟨rfl, -⟩ := hv
  have hx := B.exec
  have hb := B.bytes
  have hr := B.returns
  have hlk := B.notSynchronized
  have hts := atoms_spec (ws := (ws_ yX3_levelAt cX3_levelAt 3 (some .int))) B.pre
  have hts : ∀ w ∈ lw_all, w.before _ s = true := fun w h => hts w (List.mem_cons_of_mem _ h)
  have hown : s.vm.findClass RX3 = some m.cls := findClass_of_methodNamed B.named
  have hl := lv_entry ([.int (iI f), .int (iI t)]) (n := 3) (Nat.le_of_ble_eq_true rfl)
  rw [lg_entry_eq]
  generalize (lg_sl ([.int (iI f), .int (iI t)]) ++ List.replicate (3 - (lg_sl ([.int (iI f), .int (iI t)])).length) Slot.unset).toArray = ls at hl ⊢
  have hl : lv_has ls 3 [(0, .int (iI f)), (1, .int (iI t))] := hl
  refine lv_bipush (v := iI 6) hx hb dX3_levelAt_0 (by rfl) ?_
  refine lv_istore_n (lv' := [(2, .int (iI 6)), (0, .int (iI f)), (1, .int (iI t))]) hx hb dX3_levelAt_2 rfl hl (by decide) rfl (fun ls hl => ?_)
  refine z_loopR (σ := Int) (fun x9 => [(0, .int (iI f)), (1, .int (iI t)), (2, .int (iI x9))]) (fun x9 => (0 ≤ x9 ∧ x9 ≤ 6) ∧ (mLv f t x9.toNat = mLv f t 6)) (fun x9 => x9.toNat) ?_ 6 (by show (0 ≤ (6 : Int) ∧ (6 : Int) ≤ 6) ∧ (mLv f t (6 : Int).toNat = mLv f t 6); exact ⟨by omega, rfl⟩) (lv_sub hl [1, 2, 0] rfl)
  rintro lev hI9 ih_3 ls hl
  have hI9 : (0 ≤ lev ∧ lev ≤ 6) ∧ (mLv f t lev.toNat = mLv f t 6) := hI9
  obtain ⟨h1, h2⟩ := hI9
  have hl : lv_has ls 3 [(0, .int (iI f)), (1, .int (iI t)), (2, .int (iI lev))] := hl
  have hP0 := pw_pos lev
  have hP6 := pw_le (x := lev) (by omega)
  have hm1 := Int.emod_nonneg f (show (2 : Int) ^ lev.toNat ≠ 0 by omega)
  have hm2 := Int.emod_lt_of_pos f hP0
  have hz0 : 1 ≤ lev ∨ (f % 2 ^ lev.toNat = 0 ∧ (2 : Int) ^ lev.toNat = 1) := by (by_cases h : lev = 0); (subst h; exact Or.inr ⟨Int.emod_one f, rfl⟩); exact Or.inl (by omega)
  refine lv_iload_n hx hb dX3_levelAt_3 rfl (lv_at hl 0 rfl) ?_
  refine lv_iconst (v := iI 1) hx hb dX3_levelAt_4 (by rfl) ?_
  refine lv_iload_n hx hb dX3_levelAt_5 rfl (lv_at hl 2 rfl) ?_
  refine z_ishl hx hb dX3_levelAt_6 (by omega) (by omega) (shl_ok (by omega) (by omega)) ?_
  refine z_as (2 ^ lev.toNat) (by rw [Int.one_mul]) ?_
  refine z_irem hx hb dX3_levelAt_7 (by omega) (by omega) ?_
  refine z_if_ne (tgt := 22) hx hb dX3_levelAt_8 (by decide) (by omega) (fun c_1 => ?_) (fun c_1 => ?_)
  · refine lv_iinc (v := iI (lev + (-1))) (lv' := [(2, .int (iI (lev + (-1)))), (0, .int (iI f)), (1, .int (iI t))]) hx hb dX3_levelAt_22 hl (k := 2) rfl (iI_add _ _) (by decide) rfl (fun ls hl => ?_)
    refine lv_goto (tgt := 3) hx hb dX3_levelAt_25 (by decide) ?_
    exact ih_3 (lev + (-1)) (by show (0 ≤ (lev + (-1)) ∧ (lev + (-1)) ≤ 6) ∧ (mLv f t (lev + (-1)).toNat = mLv f t 6); exact ⟨by omega, by rw [← h2, mLv_s (x := lev) (by omega), if_neg (by omega)]⟩) (by show (lev + (-1)).toNat < lev.toNat; omega) ls (lv_sub hl [1, 2, 0] rfl)
  · refine lv_iload_n hx hb dX3_levelAt_11 rfl (lv_at hl 0 rfl) ?_
    refine lv_iconst (v := iI 1) hx hb dX3_levelAt_12 (by rfl) ?_
    refine lv_iload_n hx hb dX3_levelAt_13 rfl (lv_at hl 2 rfl) ?_
    refine z_ishl hx hb dX3_levelAt_14 (by omega) (by omega) (shl_ok (by omega) (by omega)) ?_
    refine z_as (2 ^ lev.toNat) (by rw [Int.one_mul]) ?_
    refine z_iadd hx hb dX3_levelAt_15 ?_
    refine lv_iconst (v := iI 1) hx hb dX3_levelAt_16 (by rfl) ?_
    refine z_isub hx hb dX3_levelAt_17 ?_
    refine lv_iload_n hx hb dX3_levelAt_18 rfl (lv_at hl 1 rfl) ?_
    refine z_icmp_le (tgt := 28) hx hb dX3_levelAt_19 (by decide) (by omega) (by omega) (fun c_2 => ?_) (fun c_2 => ?_)
    · refine lv_iload_n hx hb dX3_levelAt_28 rfl (lv_at hl 2 rfl) ?_
      exact z_retS hx hb hr hlk (by rw [← h2, mLv_e (by omega) (by omega)]) dX3_levelAt_29
    · refine lv_iinc (v := iI (lev + (-1))) (lv' := [(2, .int (iI (lev + (-1)))), (0, .int (iI f)), (1, .int (iI t))]) hx hb dX3_levelAt_22 hl (k := 2) rfl (iI_add _ _) (by decide) rfl (fun ls hl => ?_)
      refine lv_goto (tgt := 3) hx hb dX3_levelAt_25 (by decide) ?_
      exact ih_3 (lev + (-1)) (by show (0 ≤ (lev + (-1)) ∧ (lev + (-1)) ≤ 6) ∧ (mLv f t (lev + (-1)).toNat = mLv f t 6); exact ⟨by omega, by rw [← h2, mLv_s (x := lev) (by omega), if_neg (by omega)]⟩) (by show (lev + (-1)).toNat < lev.toNat; omega) ls (lv_sub hl [1, 2, 0] rfl)
set_option maxHeartbeats 4000000 in
set_option maxRecDepth 100000 in
theorem kX3_parts (l : Launch) (D : va_G) (a : Nat → Nat) (kc : Nat → ClassId) (th : Int) (cn tt ce co it we tk fv : Int → Int) (sz : Nat) (f t : Int) (h_f : -2147483648 ≤ f ∧ f ≤ 2147483647) (h_t : -2147483648 ≤ t ∧ t ≤ 2147483647) : Met l yX3_parts (ws_ yX3_parts cX3_parts 5 (some .int)) ({ frames := 15, cells := 0, slots := 0, locals := 280 }) (va_Pc [.ref (a 0), .int (iI f), .int (iI t)] (mW D a kc th cn tt ce co it we tk fv sz)) (va_Qi (fun (r : Int32) (_ : Unit) => r = iI (if cdR 1 f t = 0 then mPa t 64 f else 0)) (fun (_ : Unit) t8 => RW D clz mL a (mct a kc (cdR 1 f t) cn tt ce co it we tk fv) t8.heap) (RA mL a sz)) 0 0 (RA mL a sz) := by
  refine Met.ofW (cc := cX3_parts) (maxL := 5) (ret := (some .int)) (by decide) rfl ?_
  intro p e s m args below meth c s₁ B hml hv
  obtain ⟨rfl, hsz, hW, hK, hJ0⟩ := hv
  subst hsz
  have hJ := hJ0.self (sz := s.heap.size)
  have hS : va_S (RA mL a s.heap.size) s.heap s.heap [] := va_S.rf
  have hx := B.exec
  have hb := B.bytes
  have hr := B.returns
  have hlk := B.notSynchronized
  have hts := atoms_spec (ws := (ws_ yX3_parts cX3_parts 5 (some .int))) B.pre
  have hts : ∀ w ∈ lw_all, w.before _ s = true := fun w h => hts w (List.mem_cons_of_mem _ h)
  have hown : s.vm.findClass RX3 = some m.cls := findClass_of_methodNamed B.named
  have hl := lv_entry ([.ref (a 0), .int (iI f), .int (iI t)]) (n := 5) (Nat.le_of_ble_eq_true rfl)
  rw [lg_entry_eq]
  generalize (lg_sl ([.ref (a 0), .int (iI f), .int (iI t)]) ++ List.replicate (5 - (lg_sl ([.ref (a 0), .int (iI f), .int (iI t)])).length) Slot.unset).toArray = ls at hl ⊢
  have hl : lv_has ls 5 [(0, .ref (a 0)), (1, .int (iI f)), (2, .int (iI t))] := hl
  refine lv_aload_n hx hb dX3_parts_0 rfl (lv_at hl 0 rfl) ?_
  refine lv_iconst (v := iI 1) hx hb dX3_parts_1 (by rfl) ?_
  refine lv_iload_n hx hb dX3_parts_2 rfl (lv_at hl 1 rfl) ?_
  refine lv_iload_n hx hb dX3_parts_3 rfl (lv_at hl 2 rfl) ?_
  refine va_calli (va_runV (As := [.int (iI 1), .int (iI f), .int (iI t)]) (rest := []) ⟨hx, hb, hml, hown, hts⟩ (kX3_isRange l D a kc th cn tt ce co it we tk fv _ 1 f t (by omega) (by omega) (by omega)) (cwV 3 hts (lw_V q914 q916 qs22 q33 q917) rfl rfl rfl (by decide +kernel) ⟨Nat.le_of_ble_eq_true rfl, Nat.le_of_ble_eq_true rfl⟩) ⟨mW_blind, w_recv hK hW 0 (by decide) rfl rfl, mW_pre hW hK hJ.any⟩ rfl rfl hl.1 rfl (lv_room (Nat.le_of_ble_eq_true rfl)) dX3_parts_4 ⟨Nat.le_of_ble_eq_true rfl, Nat.le_of_ble_eq_true rfl⟩) hS (fun q _ h => RA.mono hS.1 q h) (RA.mono hS.1) (fun r9 u9 t9 H locs ht9 hvm9 hr9 hB9 hz9 hk9 hS => ?_)
  subst hr9
  have hW : RW D clz mL a (mct a kc (cdR 1 f t) cn tt ce co it we tk fv) H := by rw [← ht9]; exact hB9
  refine z_if_ne (tgt := 12) hx hb dX3_parts_7 (by decide) (zb_r _) (fun c7 => ?_) (fun c7 => ?_)
  · have c7 := zb_1 c7
    have hq := cdR_0 c7
    refine lv_iconst (v := iI 0) hx hb dX3_parts_12 (by rfl) ?_
    refine lv_istore_n (lv' := [(3, .int (iI 0)), (0, .ref (a 0)), (1, .int (iI f)), (2, .int (iI t))]) hx hb dX3_parts_13 rfl hl (by decide) rfl (fun ls hl => ?_)
    refine lv_iload_n hx hb dX3_parts_14 rfl (lv_at hl 2 rfl) ?_
    refine lv_istore (lv' := [(4, .int (iI f)), (3, .int (iI 0)), (0, .ref (a 0)), (1, .int (iI f)), (2, .int (iI t))]) hx hb dX3_parts_15 hl (by decide) rfl (fun ls hl => ?_)
    refine z_loopR (σ := Int × Int × Nat) (fun x9 => [(0, .ref (a 0)), (1, .int (iI f)), (2, .int (iI t)), (3, .int (iI x9.2.1)), (4, .int (iI x9.1))]) (fun x9 => (f ≤ x9.1 ∧ x9.1 ≤ t + 1) ∧ (x9.2.1 + mPa t x9.2.2 x9.1 = mPa t 64 f) ∧ (t + 1 - x9.1 ≤ x9.2.2)) (fun x9 => (t + 1 - x9.1).toNat) ?_ (f, 0, 64) (by show (f ≤ f ∧ f ≤ t + 1) ∧ ((0 : Int) + mPa t (64 : Nat) f = mPa t 64 f) ∧ (t + 1 - f ≤ (64 : Nat)); exact ⟨by omega, by omega, by omega⟩) (lv_sub hl [2, 3, 4, 1, 0] rfl)
    rintro ⟨i, acc, fu⟩ hI9 ih_17 ls hl
    have hI9 : (f ≤ i ∧ i ≤ t + 1) ∧ (acc + mPa t fu i = mPa t 64 f) ∧ (t + 1 - i ≤ fu) := hI9
    obtain ⟨g1, g2, g3⟩ := hI9
    have hl : lv_has ls 5 [(0, .ref (a 0)), (1, .int (iI f)), (2, .int (iI t)), (3, .int (iI acc)), (4, .int (iI i))] := hl
    refine lv_iload hx hb dX3_parts_17 (lv_at hl 4 rfl) ?_
    refine lv_iload_n hx hb dX3_parts_19 rfl (lv_at hl 2 rfl) ?_
    refine z_icmp_gt (tgt := 42) hx hb dX3_parts_20 (by decide) (by omega) (by omega) (fun c_1 => ?_) (fun c_1 => ?_)
    · have hz := mPa_0 (t := t) (i := i) fu (by omega)
      have g2 : acc = mPa t 64 f := by omega
      refine lv_iload_n hx hb dX3_parts_42 rfl (lv_at hl 3 rfl) ?_
      exact z_retW hx hb hr hlk hW hS (by first | rw [if_pos (by assumption)]; exact g2 | rw [if_neg (by assumption)]) dX3_parts_43
    · have hlp := mLv_p (f := i) (t := t) (by omega) 6
      have hP6 := pw_le (x := mLv i t 6) (by omega)
      have hP0 := pw_pos (mLv i t 6)
      refine lv_iinc (v := iI (acc + 1)) (lv' := [(3, .int (iI (acc + 1))), (0, .ref (a 0)), (1, .int (iI f)), (2, .int (iI t)), (4, .int (iI i))]) hx hb dX3_parts_23 hl (k := 3) rfl (iI_add _ _) (by decide) rfl (fun ls hl => ?_)
      refine lv_iload hx hb dX3_parts_26 (lv_at hl 4 rfl) ?_
      refine lv_iconst (v := iI 1) hx hb dX3_parts_28 (by rfl) ?_
      refine lv_iload hx hb dX3_parts_29 (lv_at hl 4 rfl) ?_
      refine lv_iload_n hx hb dX3_parts_31 rfl (lv_at hl 3 rfl) ?_
      refine z_cs (W.runS (As := [.int (iI i), .int (iI t)]) (rest := [.int (iI 1), .int (iI i)]) ⟨hx, hb, hml, hown, hts⟩ (kX3_levelAt l i t (by omega) (by omega)) (va_cwS 2 hts (lw_S q942 q943 q33 q944) rfl rfl rfl (by decide +kernel) ⟨Nat.le_of_ble_eq_true rfl, Nat.le_of_ble_eq_true rfl⟩) ⟨fun _ _ _ _ q => q, fun _ _ _ => ⟨rfl, trivial⟩⟩ rfl rfl hl.1 rfl (lv_room (Nat.le_of_ble_eq_true rfl)) dX3_parts_32 ⟨Nat.le_of_ble_eq_true rfl, Nat.le_of_ble_eq_true rfl⟩) ?_
      refine z_ishl hx hb dX3_parts_35 (by omega) (by omega) (shl_ok (by omega) (by omega)) ?_
      refine z_as (2 ^ (mLv i t 6).toNat) (by rw [Int.one_mul]) ?_
      refine z_iadd hx hb dX3_parts_36 ?_
      refine lv_istore (lv' := [(4, .int (iI (i + (2 ^ (mLv i t 6).toNat)))), (3, .int (iI (acc + 1))), (0, .ref (a 0)), (1, .int (iI f)), (2, .int (iI t))]) hx hb dX3_parts_37 hl (by decide) rfl (fun ls hl => ?_)
      refine lv_goto (tgt := 17) hx hb dX3_parts_39 (by decide) ?_
      exact ih_17 ((i + (2 ^ (mLv i t 6).toNat)), (acc + 1), ((fu - 1))) (by show (f ≤ (i + (2 ^ (mLv i t 6).toNat)) ∧ (i + (2 ^ (mLv i t 6).toNat)) ≤ t + 1) ∧ ((acc + 1) + mPa t ((fu - 1) : Nat) (i + (2 ^ (mLv i t 6).toNat)) = mPa t 64 f) ∧ (t + 1 - (i + (2 ^ (mLv i t 6).toNat)) ≤ ((fu - 1) : Nat)); exact ⟨by omega, by rw [← g2, mPa_s (i := i) (n := fu) (by omega) (by omega)]; omega, by omega⟩) (by show (t + 1 - (i + (2 ^ (mLv i t 6).toNat))).toNat < (t + 1 - i).toNat; omega) ls (lv_sub hl [2, 3, 4, 1, 0] rfl)
  · have c7 := zb_0 c7
    refine lv_iconst (v := iI 0) hx hb dX3_parts_10 (by rfl) ?_
    exact z_retW hx hb hr hlk hW hS (by first | rw [if_pos (by assumption)]; exact g2 | rw [if_neg (by assumption)]) dX3_parts_11
set_option maxHeartbeats 4000000 in
set_option maxRecDepth 100000 in
theorem kX3_estimateOfRange (l : Launch) (D : va_G) (a : Nat → Nat) (kc : Nat → ClassId) (th : Int) (cn tt ce co it we tk fv : Int → Int) (sz : Nat) (st f t : Int) (h_st : -2147483648 ≤ st ∧ st ≤ 2147483647) (h_f : -2147483648 ≤ f ∧ f ≤ 2147483647) (h_t : -2147483648 ≤ t ∧ t ≤ 2147483647) (hce : ∀ i9 : Int, 0 ≤ ce i9 ∧ ce i9 ≤ 2000000) : Met l yX3_estimateOfRange (ws_ yX3_estimateOfRange cX3_estimateOfRange 7 (some .int)) ({ frames := 15, cells := 0, slots := 0, locals := 280 }) (va_Pc [.ref (a 0), .int (iI st), .int (iI f), .int (iI t)] (mW D a kc th cn tt ce co it we tk fv sz)) (va_Qi (fun (r : Int32) (_ : Unit) => r = iI (if cdR (zb (0 ≤ st ∧ st < 4)) f t = 0 then mER cn ce st t 64 f else 0)) (fun (_ : Unit) t8 => RW D clz mL a (mct a kc (cdR (zb (0 ≤ st ∧ st < 4)) f t) cn tt ce co it we tk fv) t8.heap) (RA mL a sz)) 0 0 (RA mL a sz) := by
  refine Met.ofW (cc := cX3_estimateOfRange) (maxL := 7) (ret := (some .int)) (by decide) rfl ?_
  intro p e s m args below meth c s₁ B hml hv
  obtain ⟨rfl, hsz, hW, hK, hJ0⟩ := hv
  subst hsz
  have hJ := hJ0.self (sz := s.heap.size)
  have hS : va_S (RA mL a s.heap.size) s.heap s.heap [] := va_S.rf
  have hx := B.exec
  have hb := B.bytes
  have hr := B.returns
  have hlk := B.notSynchronized
  have hts := atoms_spec (ws := (ws_ yX3_estimateOfRange cX3_estimateOfRange 7 (some .int))) B.pre
  have hts : ∀ w ∈ lw_all, w.before _ s = true := fun w h => hts w (List.mem_cons_of_mem _ h)
  have hown : s.vm.findClass RX3 = some m.cls := findClass_of_methodNamed B.named
  have hl := lv_entry ([.ref (a 0), .int (iI st), .int (iI f), .int (iI t)]) (n := 7) (Nat.le_of_ble_eq_true rfl)
  rw [lg_entry_eq]
  generalize (lg_sl ([.ref (a 0), .int (iI st), .int (iI f), .int (iI t)]) ++ List.replicate (7 - (lg_sl ([.ref (a 0), .int (iI st), .int (iI f), .int (iI t)])).length) Slot.unset).toArray = ls at hl ⊢
  have hl : lv_has ls 7 [(0, .ref (a 0)), (1, .int (iI st)), (2, .int (iI f)), (3, .int (iI t))] := hl
  refine lv_aload_n hx hb dX3_estimateOfRange_0 rfl (lv_at hl 0 rfl) ?_
  refine lv_iload_n hx hb dX3_estimateOfRange_1 rfl (lv_at hl 1 rfl) ?_
  refine z_cs (W.runS (As := [.int (iI st)]) (rest := [.ref (a 0)]) ⟨hx, hb, hml, hown, hts⟩ (kX3_isStream l st (by omega)) (va_cwS 1 hts (lw_S q831 q832 q33 q833) rfl rfl rfl (by decide +kernel) ⟨Nat.le_of_ble_eq_true rfl, Nat.le_of_ble_eq_true rfl⟩) ⟨fun _ _ _ _ q => q, fun _ _ _ => ⟨rfl, trivial⟩⟩ rfl rfl hl.1 rfl (lv_room (Nat.le_of_ble_eq_true rfl)) dX3_estimateOfRange_2 ⟨Nat.le_of_ble_eq_true rfl, Nat.le_of_ble_eq_true rfl⟩) ?_
  refine lv_iload_n hx hb dX3_estimateOfRange_5 rfl (lv_at hl 2 rfl) ?_
  refine lv_iload_n hx hb dX3_estimateOfRange_6 rfl (lv_at hl 3 rfl) ?_
  refine va_calli (va_runV (As := [.int (iI (zb (0 ≤ st ∧ st < 4))), .int (iI f), .int (iI t)]) (rest := []) ⟨hx, hb, hml, hown, hts⟩ (kX3_isRange l D a kc th cn tt ce co it we tk fv _ (zb (0 ≤ st ∧ st < 4)) f t (by first | omega | exact zb_r _) (by first | omega | exact zb_r _) (by first | omega | exact zb_r _)) (cwV 3 hts (lw_V q914 q916 qs22 q33 q917) rfl rfl rfl (by decide +kernel) ⟨Nat.le_of_ble_eq_true rfl, Nat.le_of_ble_eq_true rfl⟩) ⟨mW_blind, w_recv hK hW 0 (by decide) rfl rfl, mW_pre hW hK hJ.any⟩ rfl rfl hl.1 rfl (lv_room (Nat.le_of_ble_eq_true rfl)) dX3_estimateOfRange_7 ⟨Nat.le_of_ble_eq_true rfl, Nat.le_of_ble_eq_true rfl⟩) hS (fun q _ h => RA.mono hS.1 q h) (RA.mono hS.1) (fun r9 u9 t9 H locs ht9 hvm9 hr9 hB9 hz9 hk9 hS => ?_)
  subst hr9
  have hW : RW D clz mL a (mct a kc (cdR (zb (0 ≤ st ∧ st < 4)) f t) cn tt ce co it we tk fv) H := by rw [← ht9]; exact hB9
  refine z_if_ne (tgt := 15) hx hb dX3_estimateOfRange_10 (by decide) (zb_r _) (fun c10 => ?_) (fun c10 => ?_)
  · have c10 := zb_1 c10
    have hq := cdR_0 c10
    have hq2 := zb_1 hq.1
    refine lv_iconst (v := iI 0) hx hb dX3_estimateOfRange_15 (by rfl) ?_
    refine lv_istore (lv' := [(4, .int (iI 0)), (0, .ref (a 0)), (1, .int (iI st)), (2, .int (iI f)), (3, .int (iI t))]) hx hb dX3_estimateOfRange_16 hl (by decide) rfl (fun ls hl => ?_)
    refine lv_iload_n hx hb dX3_estimateOfRange_18 rfl (lv_at hl 3 rfl) ?_
    refine lv_istore (lv' := [(5, .int (iI f)), (4, .int (iI 0)), (0, .ref (a 0)), (1, .int (iI st)), (2, .int (iI f)), (3, .int (iI t))]) hx hb dX3_estimateOfRange_19 hl (by decide) rfl (fun ls hl => ?_)
    refine z_loopR (σ := Int × Int × Nat) (fun x9 => [(0, .ref (a 0)), (1, .int (iI st)), (2, .int (iI f)), (3, .int (iI t)), (4, .int (iI x9.2.1)), (5, .int (iI x9.1))]) (fun x9 => (f ≤ x9.1 ∧ x9.1 ≤ t + 1) ∧ (x9.2.1 + mER cn ce st t x9.2.2 x9.1 = mER cn ce st t 64 f) ∧ (t + 1 - x9.1 ≤ x9.2.2)) (fun x9 => (t + 1 - x9.1).toNat) ?_ (f, 0, 64) (by show (f ≤ f ∧ f ≤ t + 1) ∧ ((0 : Int) + mER cn ce st t (64 : Nat) f = mER cn ce st t 64 f) ∧ (t + 1 - f ≤ (64 : Nat)); exact ⟨by omega, by omega, by omega⟩) (lv_sub hl [2, 3, 4, 5, 1, 0] rfl)
    rintro ⟨i, acc, fu⟩ hI9 ih_21 ls hl
    have hI9 : (f ≤ i ∧ i ≤ t + 1) ∧ (acc + mER cn ce st t fu i = mER cn ce st t 64 f) ∧ (t + 1 - i ≤ fu) := hI9
    obtain ⟨g1, g2, g3⟩ := hI9
    have hl : lv_has ls 7 [(0, .ref (a 0)), (1, .int (iI st)), (2, .int (iI f)), (3, .int (iI t)), (4, .int (iI acc)), (5, .int (iI i))] := hl
    refine lv_iload hx hb dX3_estimateOfRange_21 (lv_at hl 5 rfl) ?_
    refine lv_iload_n hx hb dX3_estimateOfRange_23 rfl (lv_at hl 3 rfl) ?_
    refine z_icmp_gt (tgt := 68) hx hb dX3_estimateOfRange_24 (by decide) (by omega) (by omega) (fun c_1 => ?_) (fun c_1 => ?_)
    · have hz := mER_0 (cn := cn) (ce := ce) (st := st) (t := t) (i := i) fu (by omega)
      have g2 : acc = mER cn ce st t 64 f := by omega
      refine lv_iload hx hb dX3_estimateOfRange_68 (lv_at hl 4 rfl) ?_
      exact z_retW hx hb hr hlk hW hS (by first | rw [if_pos (by assumption)]; exact g2 | rw [if_neg (by assumption)]) dX3_estimateOfRange_70
    · have hlp := mLv_p (f := i) (t := t) (by omega) 6
      have hP6 := pw_le (x := mLv i t 6) (by omega)
      have hP0 := pw_pos (mLv i t 6)
      have hho := half_ok (i := i) (x := mLv i t 6) (by omega) (by omega)
      refine lv_iload hx hb dX3_estimateOfRange_27 (lv_at hl 5 rfl) ?_
      refine lv_iload_n hx hb dX3_estimateOfRange_29 rfl (lv_at hl 3 rfl) ?_
      refine z_cs (W.runS (As := [.int (iI i), .int (iI t)]) (rest := []) ⟨hx, hb, hml, hown, hts⟩ (kX3_levelAt l i t (by omega) (by omega)) (va_cwS 2 hts (lw_S q942 q943 q33 q944) rfl rfl rfl (by decide +kernel) ⟨Nat.le_of_ble_eq_true rfl, Nat.le_of_ble_eq_true rfl⟩) ⟨fun _ _ _ _ q => q, fun _ _ _ => ⟨rfl, trivial⟩⟩ rfl rfl hl.1 rfl (lv_room (Nat.le_of_ble_eq_true rfl)) dX3_estimateOfRange_30 ⟨Nat.le_of_ble_eq_true rfl, Nat.le_of_ble_eq_true rfl⟩) ?_
      refine lv_istore (lv' := [(6, .int (iI (mLv i t 6))), (0, .ref (a 0)), (1, .int (iI st)), (2, .int (iI f)), (3, .int (iI t)), (4, .int (iI acc)), (5, .int (iI i))]) hx hb dX3_estimateOfRange_33 hl (by decide) rfl (fun ls hl => ?_)
      refine lv_iload hx hb dX3_estimateOfRange_35 (lv_at hl 5 rfl) ?_
      refine lv_aload_n hx hb dX3_estimateOfRange_37 rfl (lv_at hl 1 rfl) ?_
      refine lv_iload_n hx hb dX3_estimateOfRange_38 rfl (lv_at hl 2 rfl) ?_
      refine lv_iload hx hb dX3_estimateOfRange_39 (lv_at hl 0 rfl) ?_
      refine lv_iload hx hb dX3_estimateOfRange_41 (lv_at hl 6 rfl) ?_
      refine lv_iload hx hb dX3_estimateOfRange_43 (lv_at hl 0 rfl) ?_
      refine z_ishr hx hb dX3_estimateOfRange_45 (by omega) (by omega) ?_
      refine z_cs (W.runV (As := [.int (iI st), .int (iI (mLv i t 6)), .int (iI (i / 2 ^ ((mLv i t 6)).toNat))]) (rest := [.int (iI acc)]) ⟨hx, hb, hml, hown, hts⟩ (kX3_estimateOf l D a kc (cdR (zb (0 ≤ st ∧ st < 4)) f t) cn tt ce co it we tk fv st (mLv i t 6) (i / 2 ^ ((mLv i t 6)).toNat) (by omega) (by omega) (hho.1) (hho.2.1) (by omega)) (cwV 3 hts (lw_V q846 q848 qs13 q33 q849) rfl rfl rfl (by decide +kernel) ⟨Nat.le_of_ble_eq_true rfl, Nat.le_of_ble_eq_true rfl⟩) ⟨mR_blind, w_recv hK hW 0 (by decide) rfl rfl, mR_pre hW hK⟩ rfl rfl hl.1 rfl (lv_room (Nat.le_of_ble_eq_true rfl)) dX3_estimateOfRange_46 ⟨Nat.le_of_ble_eq_true rfl, Nat.le_of_ble_eq_true rfl⟩) ?_
      refine z_iadd hx hb dX3_estimateOfRange_49 ?_
      refine lv_istore (lv' := [(4, .int (iI (acc + (mEst cn ce st (mLv i t 6) (i / 2 ^ ((mLv i t 6)).toNat))))), (6, .int (iI (mLv i t 6))), (0, .ref (a 0)), (1, .int (iI st)), (2, .int (iI f)), (3, .int (iI t)), (5, .int (iI i))]) hx hb dX3_estimateOfRange_50 hl (by decide) rfl (fun ls hl => ?_)
      refine lv_iload hx hb dX3_estimateOfRange_52 (lv_at hl 6 rfl) ?_
      refine lv_iconst (v := iI 1) hx hb dX3_estimateOfRange_54 (by rfl) ?_
      refine lv_iload hx hb dX3_estimateOfRange_55 (lv_at hl 6 rfl) ?_
      refine lv_iload_n hx hb dX3_estimateOfRange_57 rfl (lv_at hl 5 rfl) ?_
      refine z_cs (W.runS (As := [.int (iI i), .int (iI t)]) (rest := [.int (iI 1), .int (iI i)]) ⟨hx, hb, hml, hown, hts⟩ (kX3_levelAt l i t (by omega) (by omega)) (va_cwS 2 hts (lw_S q942 q943 q33 q944) rfl rfl rfl (by decide +kernel) ⟨Nat.le_of_ble_eq_true rfl, Nat.le_of_ble_eq_true rfl⟩) ⟨fun _ _ _ _ q => q, fun _ _ _ => ⟨rfl, trivial⟩⟩ rfl rfl hl.1 rfl (lv_room (Nat.le_of_ble_eq_true rfl)) dX3_estimateOfRange_58 ⟨Nat.le_of_ble_eq_true rfl, Nat.le_of_ble_eq_true rfl⟩) ?_
      refine z_ishl hx hb dX3_estimateOfRange_61 (by omega) (by omega) (shl_ok (by omega) (by omega)) ?_
      refine z_as (2 ^ (mLv i t 6).toNat) (by rw [Int.one_mul]) ?_
      refine z_iadd hx hb dX3_estimateOfRange_62 ?_
      refine lv_istore (lv' := [(5, .int (iI (i + (2 ^ (mLv i t 6).toNat)))), (4, .int (iI (acc + (mEst cn ce st (mLv i t 6) (i / 2 ^ ((mLv i t 6)).toNat))))), (6, .int (iI (mLv i t 6))), (0, .ref (a 0)), (1, .int (iI st)), (2, .int (iI f)), (3, .int (iI t))]) hx hb dX3_estimateOfRange_63 hl (by decide) rfl (fun ls hl => ?_)
      refine lv_goto (tgt := 21) hx hb dX3_estimateOfRange_65 (by decide) ?_
      exact ih_21 ((i + (2 ^ (mLv i t 6).toNat)), (acc + (mEst cn ce st (mLv i t 6) (i / 2 ^ ((mLv i t 6)).toNat))), ((fu - 1))) (by show (f ≤ (i + (2 ^ (mLv i t 6).toNat)) ∧ (i + (2 ^ (mLv i t 6).toNat)) ≤ t + 1) ∧ ((acc + (mEst cn ce st (mLv i t 6) (i / 2 ^ ((mLv i t 6)).toNat))) + mER cn ce st t ((fu - 1) : Nat) (i + (2 ^ (mLv i t 6).toNat)) = mER cn ce st t 64 f) ∧ (t + 1 - (i + (2 ^ (mLv i t 6).toNat)) ≤ ((fu - 1) : Nat)); exact ⟨by omega, by rw [← g2, mER_s (i := i) (n := fu) (by omega) (by omega)]; omega, by omega⟩) (by show (t + 1 - (i + (2 ^ (mLv i t 6).toNat))).toNat < (t + 1 - i).toNat; omega) ls (lv_sub hl [3, 4, 5, 6, 1, 0] rfl)
  · have c10 := zb_0 c10
    refine lv_iconst (v := iI 0) hx hb dX3_estimateOfRange_13 (by rfl) ?_
    exact z_retW hx hb hr hlk hW hS (by first | rw [if_pos (by assumption)]; exact g2 | rw [if_neg (by assumption)]) dX3_estimateOfRange_14
set_option maxHeartbeats 4000000 in
set_option maxRecDepth 100000 in
theorem kX3_isFrequent (l : Launch) (D : va_G) (a : Nat → Nat) (kc : Nat → ClassId) (th : Int) (cn tt ce co it we tk fv : Int → Int) (st item least : Int) (hst : 0 ≤ st ∧ st < 4) (hi : 0 ≤ item ∧ item ≤ 63) (hl9 : -2147483648 ≤ least ∧ least ≤ 2147483647) (hce : ∀ i9 : Int, 0 ≤ ce i9 ∧ ce i9 ≤ 2000000) (hcn : ∀ i9 : Int, 0 ≤ cn i9 ∧ cn i9 ≤ 1000000) : Met l yX3_isFrequent (ws_ yX3_isFrequent cX3_isFrequent 6 (some .boolean)) ({ frames := 15, cells := 0, slots := 0, locals := 280 }) (va_Pc [.ref (a 0), .int (iI st), .int (iI item), .int (iI least)] (mR D a kc th cn tt ce co it we tk fv)) (vp_Si (fun r => r = iI (zb (mFq cn ce st item least 7 = true)))) 0 0 (fun _ => False) := by
  refine Met.ofW (cc := cX3_isFrequent) (maxL := 6) (ret := (some .boolean)) (by decide) rfl ?_
  intro p e s m args below meth c s₁ B hml hv
  obtain ⟨rfl, hW, hK⟩ := hv
  have hx := B.exec
  have hb := B.bytes
  have hr := B.returns
  have hlk := B.notSynchronized
  have hts := atoms_spec (ws := (ws_ yX3_isFrequent cX3_isFrequent 6 (some .boolean))) B.pre
  have hts : ∀ w ∈ lw_all, w.before _ s = true := fun w h => hts w (List.mem_cons_of_mem _ h)
  have hown : s.vm.findClass RX3 = some m.cls := findClass_of_methodNamed B.named
  have hl := lv_entry ([.ref (a 0), .int (iI st), .int (iI item), .int (iI least)]) (n := 6) (Nat.le_of_ble_eq_true rfl)
  rw [lg_entry_eq]
  generalize (lg_sl ([.ref (a 0), .int (iI st), .int (iI item), .int (iI least)]) ++ List.replicate (6 - (lg_sl ([.ref (a 0), .int (iI st), .int (iI item), .int (iI least)])).length) Slot.unset).toArray = ls at hl ⊢
  have hl : lv_has ls 6 [(0, .ref (a 0)), (1, .int (iI st)), (2, .int (iI item)), (3, .int (iI least))] := hl
  refine lv_iconst (v := iI 1) hx hb dX3_isFrequent_0 (by rfl) ?_
  refine lv_istore (lv' := [(4, .int (iI 1)), (0, .ref (a 0)), (1, .int (iI st)), (2, .int (iI item)), (3, .int (iI least))]) hx hb dX3_isFrequent_1 hl (by decide) rfl (fun ls hl => ?_)
  refine lv_iconst (v := iI 0) hx hb dX3_isFrequent_3 (by rfl) ?_
  refine lv_istore (lv' := [(5, .int (iI 0)), (4, .int (iI 1)), (0, .ref (a 0)), (1, .int (iI st)), (2, .int (iI item)), (3, .int (iI least))]) hx hb dX3_isFrequent_4 hl (by decide) rfl (fun ls hl => ?_)
  refine z_loopR (σ := Int × Int) (fun x9 => [(0, .ref (a 0)), (1, .int (iI st)), (2, .int (iI item)), (3, .int (iI least)), (4, .int (iI x9.2)), (5, .int (iI x9.1))]) (fun x9 => (0 ≤ x9.1 ∧ x9.1 ≤ 7) ∧ (x9.2 = zb (mFq cn ce st item least x9.1.toNat = true))) (fun x9 => (7 - x9.1).toNat) ?_ (0, 1) (by show (0 ≤ (0 : Int) ∧ (0 : Int) ≤ 7) ∧ ((1 : Int) = zb (mFq cn ce st item least (0 : Int).toNat = true)); exact ⟨by omega, rfl⟩) (lv_sub hl [2, 3, 4, 5, 1, 0] rfl)
  rintro ⟨lev, isv⟩ hI9 ih_6 ls hl
  have hI9 : (0 ≤ lev ∧ lev ≤ 7) ∧ (isv = zb (mFq cn ce st item least lev.toNat = true)) := hI9
  obtain ⟨h1, h2⟩ := hI9
  have hl : lv_has ls 6 [(0, .ref (a 0)), (1, .int (iI st)), (2, .int (iI item)), (3, .int (iI least)), (4, .int (iI isv)), (5, .int (iI lev))] := hl
  have h3 : isv = 0 ∨ isv = 1 := by rw [h2]; exact zb_01 _
  refine lv_iload hx hb dX3_isFrequent_6 (lv_at hl 5 rfl) ?_
  refine lv_bipush (v := iI 7) hx hb dX3_isFrequent_8 (by rfl) ?_
  refine z_icmp_ge (tgt := 46) hx hb dX3_isFrequent_10 (by decide) (by omega) (by decide) (fun c_1 => ?_) (fun c_1 => ?_)
  · refine lv_iload hx hb dX3_isFrequent_46 (lv_at hl 4 rfl) ?_
    exact z_retB hx hb hr hlk (by rw [h2, show lev = 7 by omega]; rfl) h3 dX3_isFrequent_48
  · refine z_dia (P := ¬ isv = 0 ∧ least ≤ mEst cn ce st lev (item / 2 ^ lev.toNat)) (x := 1) (y := 0) (pcM := 38) (ls := ls) (rest := []) ?_ (fun j_2t j_2f => ?_)
    · refine lv_istore (lv' := [(4, .int (iI (if ¬ isv = 0 ∧ least ≤ mEst cn ce st lev (item / 2 ^ lev.toNat) then 1 else 0))), (0, .ref (a 0)), (1, .int (iI st)), (2, .int (iI item)), (3, .int (iI least)), (5, .int (iI lev))]) hx hb dX3_isFrequent_38 hl (by decide) rfl (fun ls hl => ?_)
      refine lv_iinc (v := iI (lev + 1)) (lv' := [(5, .int (iI (lev + 1))), (4, .int (iI (if ¬ isv = 0 ∧ least ≤ mEst cn ce st lev (item / 2 ^ lev.toNat) then 1 else 0))), (0, .ref (a 0)), (1, .int (iI st)), (2, .int (iI item)), (3, .int (iI least))]) hx hb dX3_isFrequent_40 hl (k := 5) rfl (iI_add _ _) (by decide) rfl (fun ls hl => ?_)
      refine lv_goto (tgt := 6) hx hb dX3_isFrequent_43 (by decide) ?_
      exact ih_6 ((lev + 1), ((if ¬ isv = 0 ∧ least ≤ mEst cn ce st lev (item / 2 ^ lev.toNat) then 1 else 0))) (by show (0 ≤ (lev + 1) ∧ (lev + 1) ≤ 7) ∧ ((if ¬ isv = 0 ∧ least ≤ mEst cn ce st lev (item / 2 ^ lev.toNat) then 1 else 0) = zb (mFq cn ce st item least (lev + 1).toNat = true)); exact ⟨by omega, by rw [mFq_s (by omega), h2]; exact zb_and _ _⟩) (by show (7 - (lev + 1)).toNat < (7 - lev).toNat; omega) ls (lv_sub hl [2, 3, 4, 5, 1, 0] rfl)
    · refine lv_iload hx hb dX3_isFrequent_13 (lv_at hl 4 rfl) ?_
      refine z_if_eq (tgt := 37) hx hb dX3_isFrequent_15 (by decide) (by omega) (fun c_3 => ?_) (fun c_3 => ?_)
      · refine lv_iconst (v := iI 0) hx hb dX3_isFrequent_37 (by rfl) ?_
        exact j_2f (by omega)
      · refine lv_aload_n hx hb dX3_isFrequent_18 rfl (lv_at hl 0 rfl) ?_
        refine lv_iload_n hx hb dX3_isFrequent_19 rfl (lv_at hl 1 rfl) ?_
        refine lv_iload hx hb dX3_isFrequent_20 (lv_at hl 5 rfl) ?_
        refine lv_iload_n hx hb dX3_isFrequent_22 rfl (lv_at hl 2 rfl) ?_
        refine lv_iload hx hb dX3_isFrequent_23 (lv_at hl 5 rfl) ?_
        refine z_ishr hx hb dX3_isFrequent_25 (by omega) (by omega) ?_
        have hho := half_ok hi (x := lev) (by omega)
        have hE := mEst_b (cn := cn) hcn hce (by decide) st lev (item / 2 ^ lev.toNat) (by omega)
        refine z_cs (W.runV (As := [.int (iI st), .int (iI lev), .int (iI (item / 2 ^ (lev).toNat))]) (rest := []) ⟨hx, hb, hml, hown, hts⟩ (kX3_estimateOf l D a kc th cn tt ce co it we tk fv st lev (item / 2 ^ (lev).toNat) (by omega) (by omega) (hho.1) (hho.2.1) (by omega)) (cwV 3 hts (lw_V q846 q848 qs13 q33 q849) rfl rfl rfl (by decide +kernel) ⟨Nat.le_of_ble_eq_true rfl, Nat.le_of_ble_eq_true rfl⟩) ⟨mR_blind, w_recv hK hW 0 (by decide) rfl rfl, mR_pre hW hK⟩ rfl rfl hl.1 rfl (lv_room (Nat.le_of_ble_eq_true rfl)) dX3_isFrequent_26 ⟨Nat.le_of_ble_eq_true rfl, Nat.le_of_ble_eq_true rfl⟩) ?_
        refine lv_iload_n hx hb dX3_isFrequent_29 rfl (lv_at hl 3 rfl) ?_
        refine z_icmp_lt (tgt := 37) hx hb dX3_isFrequent_30 (by decide) (by omega) (by omega) (fun c_4 => ?_) (fun c_4 => ?_)
        · refine lv_iconst (v := iI 0) hx hb dX3_isFrequent_37 (by rfl) ?_
          exact j_2f (by omega)
        · refine lv_iconst (v := iI 1) hx hb dX3_isFrequent_33 (by rfl) ?_
          refine lv_goto (tgt := 38) hx hb dX3_isFrequent_34 (by decide) ?_
          exact j_2t (by omega)
set_option maxHeartbeats 4000000 in
set_option maxRecDepth 100000 in
theorem kX3_frequent (l : Launch) (D : va_G) (a : Nat → Nat) (kc : Nat → ClassId) (th : Int) (cn tt ce co it we tk fv : Int → Int) (sz : Nat) (st least : Int) (h_st : -2147483648 ≤ st ∧ st ≤ 2147483647) (h_least : -2147483648 ≤ least ∧ least ≤ 2147483647) (hce : ∀ i9 : Int, 0 ≤ ce i9 ∧ ce i9 ≤ 2000000) (hcn : ∀ i9 : Int, 0 ≤ cn i9 ∧ cn i9 ≤ 1000000) : Met l yX3_frequent (ws_ yX3_frequent cX3_frequent 5 (some .int)) ({ frames := 16, cells := 0, slots := 0, locals := 320 }) (va_Pc [.ref (a 0), .int (iI st), .int (iI least)] (mW D a kc th cn tt ce co it we tk fv sz)) (va_Qi (fun (r : Int32) (_ : Unit) => r = iI (if cdL st least = 0 then mFr cn ce st least 64 else 0)) (fun (_ : Unit) t8 => RW D clz mL a (mct a kc (cdL st least) cn tt ce co it we tk fv) t8.heap) (RA mL a sz)) 0 0 (RA mL a sz) := by
  refine Met.ofW (cc := cX3_frequent) (maxL := 5) (ret := (some .int)) (by decide) rfl ?_
  intro p e s m args below meth c s₁ B hml hv
  obtain ⟨rfl, hsz, hW, hK, hJ0⟩ := hv
  subst hsz
  have hJ := hJ0.self (sz := s.heap.size)
  have hS : va_S (RA mL a s.heap.size) s.heap s.heap [] := va_S.rf
  have hx := B.exec
  have hb := B.bytes
  have hr := B.returns
  have hlk := B.notSynchronized
  have hts := atoms_spec (ws := (ws_ yX3_frequent cX3_frequent 5 (some .int))) B.pre
  have hts : ∀ w ∈ lw_all, w.before _ s = true := fun w h => hts w (List.mem_cons_of_mem _ h)
  have hown : s.vm.findClass RX3 = some m.cls := findClass_of_methodNamed B.named
  have hl := lv_entry ([.ref (a 0), .int (iI st), .int (iI least)]) (n := 5) (Nat.le_of_ble_eq_true rfl)
  rw [lg_entry_eq]
  generalize (lg_sl ([.ref (a 0), .int (iI st), .int (iI least)]) ++ List.replicate (5 - (lg_sl ([.ref (a 0), .int (iI st), .int (iI least)])).length) Slot.unset).toArray = ls at hl ⊢
  have hl : lv_has ls 5 [(0, .ref (a 0)), (1, .int (iI st)), (2, .int (iI least))] := hl
  refine lv_aload_n hx hb dX3_frequent_0 rfl (lv_at hl 0 rfl) ?_
  refine lv_iload_n hx hb dX3_frequent_1 rfl (lv_at hl 1 rfl) ?_
  refine lv_iload_n hx hb dX3_frequent_2 rfl (lv_at hl 2 rfl) ?_
  refine va_calli (va_runV (As := [.int (iI st), .int (iI least)]) (rest := []) ⟨hx, hb, hml, hown, hts⟩ (kX3_isLeast l D a kc th cn tt ce co it we tk fv _ st least (by omega) (by omega)) (cwV 2 hts (lw_V q953 q955 qs23 q33 q956) rfl rfl rfl (by decide +kernel) ⟨Nat.le_of_ble_eq_true rfl, Nat.le_of_ble_eq_true rfl⟩) ⟨mW_blind, w_recv hK hW 0 (by decide) rfl rfl, mW_pre hW hK hJ.any⟩ rfl rfl hl.1 rfl (lv_room (Nat.le_of_ble_eq_true rfl)) dX3_frequent_3 ⟨Nat.le_of_ble_eq_true rfl, Nat.le_of_ble_eq_true rfl⟩) hS (fun q _ h => RA.mono hS.1 q h) (RA.mono hS.1) (fun r9 u9 t9 H locs ht9 hvm9 hr9 hB9 hz9 hk9 hS => ?_)
  subst hr9
  have hW : RW D clz mL a (mct a kc (cdL st least) cn tt ce co it we tk fv) H := by rw [← ht9]; exact hB9
  refine z_if_ne (tgt := 11) hx hb dX3_frequent_6 (by decide) (zb_r _) (fun c6 => ?_) (fun c6 => ?_)
  · have c6 := zb_1 c6
    have hq := cdL_0 c6
    refine lv_iconst (v := iI 0) hx hb dX3_frequent_11 (by rfl) ?_
    refine lv_istore_n (lv' := [(3, .int (iI 0)), (0, .ref (a 0)), (1, .int (iI st)), (2, .int (iI least))]) hx hb dX3_frequent_12 rfl hl (by decide) rfl (fun ls hl => ?_)
    refine lv_iconst (v := iI 0) hx hb dX3_frequent_13 (by rfl) ?_
    refine lv_istore (lv' := [(4, .int (iI 0)), (3, .int (iI 0)), (0, .ref (a 0)), (1, .int (iI st)), (2, .int (iI least))]) hx hb dX3_frequent_14 hl (by decide) rfl (fun ls hl => ?_)
    refine z_loopR (σ := Int × Int) (fun x9 => [(0, .ref (a 0)), (1, .int (iI st)), (2, .int (iI least)), (3, .int (iI x9.2)), (4, .int (iI x9.1))]) (fun x9 => (0 ≤ x9.1 ∧ x9.1 ≤ 64) ∧ (x9.2 = mFr cn ce st least x9.1.toNat)) (fun x9 => (64 - x9.1).toNat) ?_ (0, 0) (by show (0 ≤ (0 : Int) ∧ (0 : Int) ≤ 64) ∧ ((0 : Int) = mFr cn ce st least (0 : Int).toNat); exact ⟨by omega, rfl⟩) (lv_sub hl [2, 3, 4, 1, 0] rfl)
    rintro ⟨i, n⟩ hI9 ih_16 ls hl
    have hI9 : (0 ≤ i ∧ i ≤ 64) ∧ (n = mFr cn ce st least i.toNat) := hI9
    obtain ⟨g1, g2⟩ := hI9
    have hl : lv_has ls 5 [(0, .ref (a 0)), (1, .int (iI st)), (2, .int (iI least)), (3, .int (iI n)), (4, .int (iI i))] := hl
    refine lv_iload hx hb dX3_frequent_16 (lv_at hl 4 rfl) ?_
    refine lv_bipush (v := iI 64) hx hb dX3_frequent_18 (by rfl) ?_
    refine z_icmp_ge (tgt := 48) hx hb dX3_frequent_20 (by decide) (by omega) (by decide) (fun c_1 => ?_) (fun c_1 => ?_)
    · have hk : i = 64 := by omega
      rw [hk] at g2
      refine lv_iload_n hx hb dX3_frequent_48 rfl (lv_at hl 3 rfl) ?_
      exact z_retW hx hb hr hlk hW hS (by first | rw [if_pos (by assumption)]; exact g2 | rw [if_neg (by assumption)]) dX3_frequent_49
    · refine lv_iload_n hx hb dX3_frequent_23 rfl (lv_at hl 3 rfl) ?_
      refine z_dia (P := mFq cn ce st i least 7 = true) (x := 1) (y := 0) (pcM := 40) (ls := ls) (rest := [.int (iI n)]) ?_ (fun j_2t j_2f => ?_)
      · refine z_as (zb (mFq cn ce st i least 7 = true)) (rfl) ?_
        refine z_iadd hx hb dX3_frequent_40 ?_
        refine lv_istore_n (lv' := [(3, .int (iI (n + (zb (mFq cn ce st i least 7 = true))))), (0, .ref (a 0)), (1, .int (iI st)), (2, .int (iI least)), (4, .int (iI i))]) hx hb dX3_frequent_41 rfl hl (by decide) rfl (fun ls hl => ?_)
        refine lv_iinc (v := iI (i + 1)) (lv' := [(4, .int (iI (i + 1))), (3, .int (iI (n + (zb (mFq cn ce st i least 7 = true))))), (0, .ref (a 0)), (1, .int (iI st)), (2, .int (iI least))]) hx hb dX3_frequent_42 hl (k := 4) rfl (iI_add _ _) (by decide) rfl (fun ls hl => ?_)
        refine lv_goto (tgt := 16) hx hb dX3_frequent_45 (by decide) ?_
        exact ih_16 ((i + 1), (n + (zb (mFq cn ce st i least 7 = true)))) (by show (0 ≤ (i + 1) ∧ (i + 1) ≤ 64) ∧ ((n + (zb (mFq cn ce st i least 7 = true))) = mFr cn ce st least (i + 1).toNat); exact ⟨by omega, by rw [mFr_s (by omega), ← g2]⟩) (by show (64 - (i + 1)).toNat < (64 - i).toNat; omega) ls (lv_sub hl [2, 3, 4, 1, 0] rfl)
      · refine lv_aload_n hx hb dX3_frequent_24 rfl (lv_at hl 0 rfl) ?_
        refine lv_iload_n hx hb dX3_frequent_25 rfl (lv_at hl 1 rfl) ?_
        refine lv_iload hx hb dX3_frequent_26 (lv_at hl 4 rfl) ?_
        refine lv_iload_n hx hb dX3_frequent_28 rfl (lv_at hl 2 rfl) ?_
        refine z_cs (W.runV (As := [.int (iI st), .int (iI i), .int (iI least)]) (rest := [.int (iI n)]) ⟨hx, hb, hml, hown, hts⟩ (kX3_isFrequent l D a kc (cdL st least) cn tt ce co it we tk fv st i least (by omega) (by omega) (by omega) (by omega) (by omega)) (cwV 3 hts (lw_V q957 q959 qs24 q33 q960) rfl rfl rfl (by decide +kernel) ⟨Nat.le_of_ble_eq_true rfl, Nat.le_of_ble_eq_true rfl⟩) ⟨mR_blind, w_recv hK hW 0 (by decide) rfl rfl, mR_pre hW hK⟩ rfl rfl hl.1 rfl (lv_room (Nat.le_of_ble_eq_true rfl)) dX3_frequent_29 ⟨Nat.le_of_ble_eq_true rfl, Nat.le_of_ble_eq_true rfl⟩) ?_
        refine z_if_eq (tgt := 39) hx hb dX3_frequent_32 (by decide) (zb_r _) (fun c_3 => ?_) (fun c_3 => ?_)
        · have c_3 := zb_0 c_3
          refine lv_iconst (v := iI 0) hx hb dX3_frequent_39 (by rfl) ?_
          exact j_2f (by assumption)
        · have c_3 := zb_1 c_3
          refine lv_iconst (v := iI 1) hx hb dX3_frequent_35 (by rfl) ?_
          refine lv_goto (tgt := 40) hx hb dX3_frequent_36 (by decide) ?_
          exact j_2t (by assumption)
  · have c6 := zb_0 c6
    refine lv_iconst (v := iI 0) hx hb dX3_frequent_9 (by rfl) ?_
    exact z_retW hx hb hr hlk hW hS (by first | rw [if_pos (by assumption)]; exact g2 | rw [if_neg (by assumption)]) dX3_frequent_10
set_option maxHeartbeats 4000000 in
set_option maxRecDepth 100000 in
theorem kX3_frequentAt (l : Launch) (D : va_G) (a : Nat → Nat) (kc : Nat → ClassId) (th : Int) (cn tt ce co it we tk fv : Int → Int) (sz : Nat) (st least place : Int) (h_st : -2147483648 ≤ st ∧ st ≤ 2147483647) (h_least : -2147483648 ≤ least ∧ least ≤ 2147483647) (h_place : -2147483648 ≤ place ∧ place ≤ 2147483647) (hce : ∀ i9 : Int, 0 ≤ ce i9 ∧ ce i9 ≤ 2000000) (hcn : ∀ i9 : Int, 0 ≤ cn i9 ∧ cn i9 ≤ 1000000) : Met l yX3_frequentAt (ws_ yX3_frequentAt cX3_frequentAt 7 (some .int)) ({ frames := 16, cells := 0, slots := 0, locals := 320 }) (va_Pc [.ref (a 0), .int (iI st), .int (iI least), .int (iI place)] (mW D a kc th cn tt ce co it we tk fv sz)) (va_Qi (fun (r : Int32) (_ : Unit) => r = iI (if cdFA (cdL st least) (mFA cn ce st least place 64).2 = 0 then (mFA cn ce st least place 64).2 else 0)) (fun (_ : Unit) t8 => RW D clz mL a (mct a kc (cdFA (cdL st least) (mFA cn ce st least place 64).2) cn tt ce co it we tk fv) t8.heap) (RA mL a sz)) 0 0 (RA mL a sz) := by
  refine Met.ofW (cc := cX3_frequentAt) (maxL := 7) (ret := (some .int)) (by decide) rfl ?_
  intro p e s m args below meth c s₁ B hml hv
  obtain ⟨rfl, hsz, hW, hK, hJ0⟩ := hv
  subst hsz
  have hJ := hJ0.self (sz := s.heap.size)
  have hS : va_S (RA mL a s.heap.size) s.heap s.heap [] := va_S.rf
  have hx := B.exec
  have hb := B.bytes
  have hr := B.returns
  have hlk := B.notSynchronized
  have hts := atoms_spec (ws := (ws_ yX3_frequentAt cX3_frequentAt 7 (some .int))) B.pre
  have hts : ∀ w ∈ lw_all, w.before _ s = true := fun w h => hts w (List.mem_cons_of_mem _ h)
  have hown : s.vm.findClass RX3 = some m.cls := findClass_of_methodNamed B.named
  have hl := lv_entry ([.ref (a 0), .int (iI st), .int (iI least), .int (iI place)]) (n := 7) (Nat.le_of_ble_eq_true rfl)
  rw [lg_entry_eq]
  generalize (lg_sl ([.ref (a 0), .int (iI st), .int (iI least), .int (iI place)]) ++ List.replicate (7 - (lg_sl ([.ref (a 0), .int (iI st), .int (iI least), .int (iI place)])).length) Slot.unset).toArray = ls at hl ⊢
  have hl : lv_has ls 7 [(0, .ref (a 0)), (1, .int (iI st)), (2, .int (iI least)), (3, .int (iI place))] := hl
  refine lv_aload_n hx hb dX3_frequentAt_0 rfl (lv_at hl 0 rfl) ?_
  refine lv_iload_n hx hb dX3_frequentAt_1 rfl (lv_at hl 1 rfl) ?_
  refine lv_iload_n hx hb dX3_frequentAt_2 rfl (lv_at hl 2 rfl) ?_
  refine va_calli (va_runV (As := [.int (iI st), .int (iI least)]) (rest := []) ⟨hx, hb, hml, hown, hts⟩ (kX3_isLeast l D a kc th cn tt ce co it we tk fv _ st least (by omega) (by omega)) (cwV 2 hts (lw_V q953 q955 qs23 q33 q956) rfl rfl rfl (by decide +kernel) ⟨Nat.le_of_ble_eq_true rfl, Nat.le_of_ble_eq_true rfl⟩) ⟨mW_blind, w_recv hK hW 0 (by decide) rfl rfl, mW_pre hW hK hJ.any⟩ rfl rfl hl.1 rfl (lv_room (Nat.le_of_ble_eq_true rfl)) dX3_frequentAt_3 ⟨Nat.le_of_ble_eq_true rfl, Nat.le_of_ble_eq_true rfl⟩) hS (fun q _ h => RA.mono hS.1 q h) (RA.mono hS.1) (fun r9 u9 t9 H locs ht9 hvm9 hr9 hB9 hz9 hk9 hS => ?_)
  subst hr9
  have hW : RW D clz mL a (mct a kc (cdL st least) cn tt ce co it we tk fv) H := by rw [← ht9]; exact hB9
  refine z_if_ne (tgt := 11) hx hb dX3_frequentAt_6 (by decide) (zb_r _) (fun c6 => ?_) (fun c6 => ?_)
  · have c6 := zb_1 c6
    have hq := cdL_0 c6
    refine lv_iconst (v := iI 0) hx hb dX3_frequentAt_11 (by rfl) ?_
    refine lv_istore (lv' := [(4, .int (iI 0)), (0, .ref (a 0)), (1, .int (iI st)), (2, .int (iI least)), (3, .int (iI place))]) hx hb dX3_frequentAt_12 hl (by decide) rfl (fun ls hl => ?_)
    refine lv_iconst (v := iI (-1)) hx hb dX3_frequentAt_14 (by rfl) ?_
    refine lv_istore (lv' := [(5, .int (iI (-1))), (4, .int (iI 0)), (0, .ref (a 0)), (1, .int (iI st)), (2, .int (iI least)), (3, .int (iI place))]) hx hb dX3_frequentAt_15 hl (by decide) rfl (fun ls hl => ?_)
    refine lv_iconst (v := iI 0) hx hb dX3_frequentAt_17 (by rfl) ?_
    refine lv_istore (lv' := [(6, .int (iI 0)), (5, .int (iI (-1))), (4, .int (iI 0)), (0, .ref (a 0)), (1, .int (iI st)), (2, .int (iI least)), (3, .int (iI place))]) hx hb dX3_frequentAt_18 hl (by decide) rfl (fun ls hl => ?_)
    refine z_loopR (σ := Int × Int × Int) (fun x9 => [(0, .ref (a 0)), (1, .int (iI st)), (2, .int (iI least)), (3, .int (iI place)), (4, .int (iI x9.2.1)), (5, .int (iI x9.2.2)), (6, .int (iI x9.1))]) (fun x9 => (0 ≤ x9.1 ∧ x9.1 ≤ 64) ∧ ((x9.2.1, x9.2.2) = mFA cn ce st least place x9.1.toNat) ∧ (0 ≤ x9.2.1 ∧ x9.2.1 ≤ x9.1) ∧ (-1 ≤ x9.2.2 ∧ x9.2.2 ≤ 63)) (fun x9 => (64 - x9.1).toNat) ?_ (0, 0, (-1)) (by show (0 ≤ (0 : Int) ∧ (0 : Int) ≤ 64) ∧ (((0 : Int), (-1 : Int)) = mFA cn ce st least place (0 : Int).toNat) ∧ (0 ≤ (0 : Int) ∧ (0 : Int) ≤ (0 : Int)) ∧ (-1 ≤ (-1 : Int) ∧ (-1 : Int) ≤ 63); exact ⟨by omega, rfl, by omega, by omega⟩) (lv_sub hl [3, 4, 5, 6, 2, 1, 0] rfl)
    rintro ⟨i, n, fd⟩ hI9 ih_20 ls hl
    have hI9 : (0 ≤ i ∧ i ≤ 64) ∧ ((n, fd) = mFA cn ce st least place i.toNat) ∧ (0 ≤ n ∧ n ≤ i) ∧ (-1 ≤ fd ∧ fd ≤ 63) := hI9
    obtain ⟨g1, g2, g3, g4⟩ := hI9
    have hl : lv_has ls 7 [(0, .ref (a 0)), (1, .int (iI st)), (2, .int (iI least)), (3, .int (iI place)), (4, .int (iI n)), (5, .int (iI fd)), (6, .int (iI i))] := hl
    refine lv_iload hx hb dX3_frequentAt_20 (lv_at hl 6 rfl) ?_
    refine lv_bipush (v := iI 64) hx hb dX3_frequentAt_22 (by rfl) ?_
    refine z_icmp_ge (tgt := 62) hx hb dX3_frequentAt_24 (by decide) (by omega) (by decide) (fun c_1 => ?_) (fun c_1 => ?_)
    · have hk : i = 64 := by omega
      rw [hk] at g2
      have g5 : fd = (mFA cn ce st least place 64).2 := congrArg (fun z => z.2) g2
      refine lv_aload_n hx hb dX3_frequentAt_62 rfl (lv_at hl 0 rfl) ?_
      refine lv_iload hx hb dX3_frequentAt_63 (lv_at hl 5 rfl) ?_
      refine lv_iconst (v := iI (-1)) hx hb dX3_frequentAt_65 (by rfl) ?_
      refine z_icmp_ne (tgt := 73) hx hb dX3_frequentAt_66 (by decide) (by omega) (by decide) (fun c_2 => ?_) (fun c_2 => ?_)
      · refine lv_iconst (v := iI 0) hx hb dX3_frequentAt_73 (by rfl) ?_
        refine va_calli (va_runV (As := [.int (iI 0)]) (rest := []) ⟨hx, hb, hml, hown, hts⟩ (kX3_holds l D a kc (cdL st least) cn tt ce co it we tk fv _ 0 (by omega)) (cwV 1 hts (lw_V q838 q840 qs11 q33 q841) rfl rfl rfl (by decide +kernel) ⟨Nat.le_of_ble_eq_true rfl, Nat.le_of_ble_eq_true rfl⟩) ⟨mW_blind, w_recv hK hW 0 (by decide) rfl rfl, mW_pre hW hK hJ.any⟩ rfl rfl hl.1 rfl (lv_room (Nat.le_of_ble_eq_true rfl)) dX3_frequentAt_74 ⟨Nat.le_of_ble_eq_true rfl, Nat.le_of_ble_eq_true rfl⟩) hS (fun q _ h => RA.mono hS.1 q h) (RA.mono hS.1) (fun r9 u9 t9 H locs ht9 hvm9 hr9 hB9 hz9 hk9 hS => ?_)
        subst hr9
        have hW : RW D clz mL a (mct a kc 0 cn tt ce co it we tk fv) H := by rw [← ht9]; exact hB9
        refine z_as 1 (by decide) ?_
        refine z_if_eq (tgt := 85) hx hb dX3_frequentAt_77 (by decide) (by decide) (fun h9 => absurd h9 (by decide)) (fun _ => ?_)
        refine lv_iload hx hb dX3_frequentAt_80 (lv_at hl 5 rfl) ?_
        refine lv_goto (tgt := 86) hx hb dX3_frequentAt_82 (by decide) ?_
        have hz9 : cdFA (cdL st least) (mFA cn ce st least place 64).2 = 0 := by unfold cdFA; (repeat' split) <;> omega
        rw [hz9]
        exact z_retW hx hb hr hlk hW hS (by rw [if_pos rfl]; exact g5) dX3_frequentAt_86
      · refine lv_iconst (v := iI 3) hx hb dX3_frequentAt_69 (by rfl) ?_
        refine lv_goto (tgt := 74) hx hb dX3_frequentAt_70 (by decide) ?_
        refine va_calli (va_runV (As := [.int (iI 3)]) (rest := []) ⟨hx, hb, hml, hown, hts⟩ (kX3_holds l D a kc (cdL st least) cn tt ce co it we tk fv _ 3 (by omega)) (cwV 1 hts (lw_V q838 q840 qs11 q33 q841) rfl rfl rfl (by decide +kernel) ⟨Nat.le_of_ble_eq_true rfl, Nat.le_of_ble_eq_true rfl⟩) ⟨mW_blind, w_recv hK hW 0 (by decide) rfl rfl, mW_pre hW hK hJ.any⟩ rfl rfl hl.1 rfl (lv_room (Nat.le_of_ble_eq_true rfl)) dX3_frequentAt_74 ⟨Nat.le_of_ble_eq_true rfl, Nat.le_of_ble_eq_true rfl⟩) hS (fun q _ h => RA.mono hS.1 q h) (RA.mono hS.1) (fun r9 u9 t9 H locs ht9 hvm9 hr9 hB9 hz9 hk9 hS => ?_)
        subst hr9
        have hW : RW D clz mL a (mct a kc 3 cn tt ce co it we tk fv) H := by rw [← ht9]; exact hB9
        refine z_as 0 (by decide) ?_
        refine z_if_eq (tgt := 85) hx hb dX3_frequentAt_77 (by decide) (by decide) (fun _ => ?_) (fun h9 => absurd h9 (by decide))
        refine lv_iconst (v := iI 0) hx hb dX3_frequentAt_85 (by rfl) ?_
        have hz9 : cdFA (cdL st least) (mFA cn ce st least place 64).2 = 3 := by unfold cdFA; (repeat' split) <;> omega
        rw [hz9]
        exact z_retW hx hb hr hlk hW hS (by rw [if_neg (by decide)]) dX3_frequentAt_86
    · refine lv_aload_n hx hb dX3_frequentAt_27 rfl (lv_at hl 0 rfl) ?_
      refine lv_iload_n hx hb dX3_frequentAt_28 rfl (lv_at hl 1 rfl) ?_
      refine lv_iload hx hb dX3_frequentAt_29 (lv_at hl 6 rfl) ?_
      refine lv_iload_n hx hb dX3_frequentAt_31 rfl (lv_at hl 2 rfl) ?_
      refine z_cs (W.runV (As := [.int (iI st), .int (iI i), .int (iI least)]) (rest := []) ⟨hx, hb, hml, hown, hts⟩ (kX3_isFrequent l D a kc (cdL st least) cn tt ce co it we tk fv st i least (by omega) (by omega) (by omega) (by omega) (by omega)) (cwV 3 hts (lw_V q957 q959 qs24 q33 q960) rfl rfl rfl (by decide +kernel) ⟨Nat.le_of_ble_eq_true rfl, Nat.le_of_ble_eq_true rfl⟩) ⟨mR_blind, w_recv hK hW 0 (by decide) rfl rfl, mR_pre hW hK⟩ rfl rfl hl.1 rfl (lv_room (Nat.le_of_ble_eq_true rfl)) dX3_frequentAt_32 ⟨Nat.le_of_ble_eq_true rfl, Nat.le_of_ble_eq_true rfl⟩) ?_
      refine z_if_eq (tgt := 56) hx hb dX3_frequentAt_35 (by decide) (zb_r _) (fun c35 => ?_) (fun c35 => ?_)
      · have c35 := zb_0 c35
        refine lv_iinc (v := iI (i + 1)) (lv' := [(6, .int (iI (i + 1))), (0, .ref (a 0)), (1, .int (iI st)), (2, .int (iI least)), (3, .int (iI place)), (4, .int (iI n)), (5, .int (iI fd))]) hx hb dX3_frequentAt_56 hl (k := 6) rfl (iI_add _ _) (by decide) rfl (fun ls hl => ?_)
        refine lv_goto (tgt := 20) hx hb dX3_frequentAt_59 (by decide) ?_
        exact ih_20 ((i + 1), n, fd) (by show (0 ≤ (i + 1) ∧ (i + 1) ≤ 64) ∧ ((n, fd) = mFA cn ce st least place (i + 1).toNat) ∧ (0 ≤ n ∧ n ≤ (i + 1)) ∧ (-1 ≤ fd ∧ fd ≤ 63); exact ⟨by omega, by rw [mFA_s (by omega), ← g2, if_neg c35], by omega, by omega⟩) (by show (64 - (i + 1)).toNat < (64 - i).toNat; omega) ls (lv_sub hl [1, 2, 3, 4, 5, 6, 0] rfl)
      · have c35 := zb_1 c35
        refine z_dia (P := n = place) (x := i) (y := fd) (pcM := 51) (ls := ls) (rest := []) ?_ (fun j_5t j_5f => ?_)
        · refine lv_istore (lv' := [(5, .int (iI (if n = place then i else fd))), (0, .ref (a 0)), (1, .int (iI st)), (2, .int (iI least)), (3, .int (iI place)), (4, .int (iI n)), (6, .int (iI i))]) hx hb dX3_frequentAt_51 hl (by decide) rfl (fun ls hl => ?_)
          refine lv_iinc (v := iI (n + 1)) (lv' := [(4, .int (iI (n + 1))), (5, .int (iI (if n = place then i else fd))), (0, .ref (a 0)), (1, .int (iI st)), (2, .int (iI least)), (3, .int (iI place)), (6, .int (iI i))]) hx hb dX3_frequentAt_53 hl (k := 5) rfl (iI_add _ _) (by decide) rfl (fun ls hl => ?_)
          refine lv_iinc (v := iI (i + 1)) (lv' := [(6, .int (iI (i + 1))), (4, .int (iI (n + 1))), (5, .int (iI (if n = place then i else fd))), (0, .ref (a 0)), (1, .int (iI st)), (2, .int (iI least)), (3, .int (iI place))]) hx hb dX3_frequentAt_56 hl (k := 6) rfl (iI_add _ _) (by decide) rfl (fun ls hl => ?_)
          refine lv_goto (tgt := 20) hx hb dX3_frequentAt_59 (by decide) ?_
          exact ih_20 ((i + 1), (n + 1), ((if n = place then i else fd))) (by show (0 ≤ (i + 1) ∧ (i + 1) ≤ 64) ∧ (((n + 1), (if n = place then i else fd)) = mFA cn ce st least place (i + 1).toNat) ∧ (0 ≤ (n + 1) ∧ (n + 1) ≤ (i + 1)) ∧ (-1 ≤ (if n = place then i else fd) ∧ (if n = place then i else fd) ≤ 63); exact ⟨by omega, by rw [mFA_s (by omega), ← g2, if_pos c35], by omega, by split <;> omega⟩) (by show (64 - (i + 1)).toNat < (64 - i).toNat; omega) ls (lv_sub hl [3, 4, 5, 6, 1, 2, 0] rfl)
        · refine lv_iload hx hb dX3_frequentAt_38 (lv_at hl 4 rfl) ?_
          refine lv_iload_n hx hb dX3_frequentAt_40 rfl (lv_at hl 3 rfl) ?_
          refine z_icmp_ne (tgt := 49) hx hb dX3_frequentAt_41 (by decide) (by omega) (by omega) (fun c_6 => ?_) (fun c_6 => ?_)
          · refine lv_iload hx hb dX3_frequentAt_49 (lv_at hl 5 rfl) ?_
            exact j_5f (by omega)
          · refine lv_iload hx hb dX3_frequentAt_44 (lv_at hl 6 rfl) ?_
            refine lv_goto (tgt := 51) hx hb dX3_frequentAt_46 (by decide) ?_
            exact j_5t (by omega)
  · have c6 := zb_0 c6
    refine lv_iconst (v := iI 0) hx hb dX3_frequentAt_9 (by rfl) ?_
    have hz9 : cdFA (cdL st least) (mFA cn ce st least place 64).2 = cdL st least := by unfold cdFA; rw [if_neg c6]
    rw [hz9]
    exact z_retW hx hb hr hlk hW hS (by rw [if_neg c6]) dX3_frequentAt_10
set_option maxHeartbeats 4000000 in
set_option maxRecDepth 100000 in
theorem kX3_itemOfRank (l : Launch) (D : va_G) (a : Nat → Nat) (kc : Nat → ClassId) (th : Int) (cn tt ce co it we tk fv : Int → Int) (sz : Nat) (st rank : Int) (h_st : -2147483648 ≤ st ∧ st ≤ 2147483647) (h_rank : -2147483648 ≤ rank ∧ rank ≤ 2147483647) (hce : ∀ i9 : Int, 0 ≤ ce i9 ∧ ce i9 ≤ 2000000) (hcn : ∀ i9 : Int, 0 ≤ cn i9 ∧ cn i9 ≤ 1000000) (htt : ∀ i9 : Int, 0 ≤ tt i9 ∧ tt i9 ≤ 1000000) : Met l yX3_itemOfRank (ws_ yX3_itemOfRank cX3_itemOfRank 8 (some .int)) ({ frames := 15, cells := 0, slots := 0, locals := 280 }) (va_Pc [.ref (a 0), .int (iI st), .int (iI rank)] (mW D a kc th cn tt ce co it we tk fv sz)) (va_Qi (fun (r : Int32) (_ : Unit) => r = iI (if cdRk st rank (tt st) = 0 then (mRk cn ce st rank 6).1 else 0)) (fun (_ : Unit) t8 => RW D clz mL a (mct a kc (cdRk st rank (tt st)) cn tt ce co it we tk fv) t8.heap) (RA mL a sz)) 0 0 (RA mL a sz) := by
  refine Met.ofW (cc := cX3_itemOfRank) (maxL := 8) (ret := (some .int)) (by decide) rfl ?_
  intro p e s m args below meth c s₁ B hml hv
  obtain ⟨rfl, hsz, hW, hK, hJ0⟩ := hv
  subst hsz
  have hJ := hJ0.self (sz := s.heap.size)
  have hS : va_S (RA mL a s.heap.size) s.heap s.heap [] := va_S.rf
  have hx := B.exec
  have hb := B.bytes
  have hr := B.returns
  have hlk := B.notSynchronized
  have hts := atoms_spec (ws := (ws_ yX3_itemOfRank cX3_itemOfRank 8 (some .int))) B.pre
  have hts : ∀ w ∈ lw_all, w.before _ s = true := fun w h => hts w (List.mem_cons_of_mem _ h)
  have hown : s.vm.findClass RX3 = some m.cls := findClass_of_methodNamed B.named
  have hl := lv_entry ([.ref (a 0), .int (iI st), .int (iI rank)]) (n := 8) (Nat.le_of_ble_eq_true rfl)
  rw [lg_entry_eq]
  generalize (lg_sl ([.ref (a 0), .int (iI st), .int (iI rank)]) ++ List.replicate (8 - (lg_sl ([.ref (a 0), .int (iI st), .int (iI rank)])).length) Slot.unset).toArray = ls at hl ⊢
  have hl : lv_has ls 8 [(0, .ref (a 0)), (1, .int (iI st)), (2, .int (iI rank))] := hl
  refine lv_iload_n hx hb dX3_itemOfRank_0 rfl (lv_at hl 1 rfl) ?_
  refine z_cs (W.runS (As := [.int (iI st)]) (rest := []) ⟨hx, hb, hml, hown, hts⟩ (kX3_isStream l st (by omega)) (va_cwS 1 hts (lw_S q831 q832 q33 q833) rfl rfl rfl (by decide +kernel) ⟨Nat.le_of_ble_eq_true rfl, Nat.le_of_ble_eq_true rfl⟩) ⟨fun _ _ _ _ q => q, fun _ _ _ => ⟨rfl, trivial⟩⟩ rfl rfl hl.1 rfl (lv_room (Nat.le_of_ble_eq_true rfl)) dX3_itemOfRank_1 ⟨Nat.le_of_ble_eq_true rfl, Nat.le_of_ble_eq_true rfl⟩) ?_
  refine lv_istore_n (lv' := [(3, .int (iI (zb (0 ≤ st ∧ st < 4)))), (0, .ref (a 0)), (1, .int (iI st)), (2, .int (iI rank))]) hx hb dX3_itemOfRank_4 rfl hl (by decide) rfl (fun ls hl => ?_)
  refine lv_aload_n hx hb dX3_itemOfRank_5 rfl (lv_at hl 1 rfl) ?_
  refine lv_iload_n hx hb dX3_itemOfRank_6 rfl (lv_at hl 0 rfl) ?_
  refine z_if_ne (tgt := 14) hx hb dX3_itemOfRank_7 (by decide) (zb_r _) (fun c_1 => ?_) (fun c_1 => ?_)
  · have c_1 := zb_1 c_1
    refine lv_iload_n hx hb dX3_itemOfRank_14 rfl (lv_at hl 3 rfl) ?_
    refine lv_iconst (v := iI 1) hx hb dX3_itemOfRank_15 (by rfl) ?_
    refine z_icmp_lt (tgt := 29) hx hb dX3_itemOfRank_16 (by decide) (by omega) (by decide) (fun c_2 => ?_) (fun c_2 => ?_)
    · refine lv_iconst (v := iI 2) hx hb dX3_itemOfRank_29 (by rfl) ?_
      refine lv_goto (tgt := 34) hx hb dX3_itemOfRank_30 (by decide) ?_
      refine va_calli (va_runV (As := [.int (iI 2)]) (rest := []) ⟨hx, hb, hml, hown, hts⟩ (kX3_holds l D a kc th cn tt ce co it we tk fv _ 2 (by omega)) (cwV 1 hts (lw_V q838 q840 qs11 q33 q841) rfl rfl rfl (by decide +kernel) ⟨Nat.le_of_ble_eq_true rfl, Nat.le_of_ble_eq_true rfl⟩) ⟨mW_blind, w_recv hK hW 0 (by decide) rfl rfl, mW_pre hW hK hJ.any⟩ rfl rfl hl.1 rfl (lv_room (Nat.le_of_ble_eq_true rfl)) dX3_itemOfRank_34 ⟨Nat.le_of_ble_eq_true rfl, Nat.le_of_ble_eq_true rfl⟩) hS (fun q _ h => RA.mono hS.1 q h) (RA.mono hS.1) (fun r9 u9 t9 H locs ht9 hvm9 hr9 hB9 hz9 hk9 hS => ?_)
      subst hr9
      have hW : RW D clz mL a (mct a kc 2 cn tt ce co it we tk fv) H := by rw [← ht9]; exact hB9
      refine z_as 0 (by decide) ?_
      refine z_if_ne (tgt := 42) hx hb dX3_itemOfRank_37 (by decide) (by decide) (fun h9 => absurd h9 (by decide)) (fun _ => ?_)
      refine lv_iconst (v := iI 0) hx hb dX3_itemOfRank_40 (by rfl) ?_
      have hz9 : cdRk st rank (tt st) = 2 := by unfold cdRk; (repeat' split) <;> omega
      rw [hz9]
      exact z_retW hx hb hr hlk hW hS (by rw [if_neg (by decide)]) dX3_itemOfRank_41
    · have htb := htt st
      refine lv_iload_n hx hb dX3_itemOfRank_19 rfl (lv_at hl 3 rfl) ?_
      refine lv_aload_n hx hb dX3_itemOfRank_20 rfl (lv_at hl 1 rfl) ?_
      refine w_getf (ci := 0) (v := .ref (a 2)) (C := RX3) (T := TX3) (N := 9) hx hb hts in_X3 hown hK hW 0 (by decide) rfl rfl 2 (by decide) (hts _ q797) (fun _ h9 => h9) rfl dX3_itemOfRank_21 ?_
      refine lv_iload_n hx hb dX3_itemOfRank_24 rfl (lv_at hl 2 rfl) ?_
      refine w_iald hx hb hK hW 2 0 (by decide) (n := 4) (g := tt) rfl rfl (by omega) (by decide) dX3_itemOfRank_25 ?_
      refine z_icmp_le (tgt := 33) hx hb dX3_itemOfRank_26 (by decide) (by omega) (by omega) (fun c_4 => ?_) (fun c_4 => ?_)
      · refine lv_iconst (v := iI 0) hx hb dX3_itemOfRank_33 (by rfl) ?_
        refine va_calli (va_runV (As := [.int (iI 0)]) (rest := []) ⟨hx, hb, hml, hown, hts⟩ (kX3_holds l D a kc th cn tt ce co it we tk fv _ 0 (by omega)) (cwV 1 hts (lw_V q838 q840 qs11 q33 q841) rfl rfl rfl (by decide +kernel) ⟨Nat.le_of_ble_eq_true rfl, Nat.le_of_ble_eq_true rfl⟩) ⟨mW_blind, w_recv hK hW 0 (by decide) rfl rfl, mW_pre hW hK hJ.any⟩ rfl rfl hl.1 rfl (lv_room (Nat.le_of_ble_eq_true rfl)) dX3_itemOfRank_34 ⟨Nat.le_of_ble_eq_true rfl, Nat.le_of_ble_eq_true rfl⟩) hS (fun q _ h => RA.mono hS.1 q h) (RA.mono hS.1) (fun r9 u9 t9 H locs ht9 hvm9 hr9 hB9 hz9 hk9 hS => ?_)
        subst hr9
        have hW : RW D clz mL a (mct a kc 0 cn tt ce co it we tk fv) H := by rw [← ht9]; exact hB9
        refine z_as 1 (by decide) ?_
        refine z_if_ne (tgt := 42) hx hb dX3_itemOfRank_37 (by decide) (by decide) (fun _ => ?_) (fun h9 => absurd h9 (by decide))
        refine lv_iconst (v := iI 0) hx hb dX3_itemOfRank_42 (by rfl) ?_
        refine lv_istore (lv' := [(4, .int (iI 0)), (3, .int (iI (zb (0 ≤ st ∧ st < 4)))), (0, .ref (a 0)), (1, .int (iI st)), (2, .int (iI rank))]) hx hb dX3_itemOfRank_43 hl (by decide) rfl (fun ls hl => ?_)
        refine lv_iload_n hx hb dX3_itemOfRank_45 rfl (lv_at hl 4 rfl) ?_
        refine lv_istore (lv' := [(5, .int (iI rank)), (4, .int (iI 0)), (3, .int (iI (zb (0 ≤ st ∧ st < 4)))), (0, .ref (a 0)), (1, .int (iI st)), (2, .int (iI rank))]) hx hb dX3_itemOfRank_46 hl (by decide) rfl (fun ls hl => ?_)
        refine lv_iconst (v := iI 5) hx hb dX3_itemOfRank_48 (by rfl) ?_
        refine lv_istore (lv' := [(6, .int (iI 5)), (5, .int (iI rank)), (4, .int (iI 0)), (3, .int (iI (zb (0 ≤ st ∧ st < 4)))), (0, .ref (a 0)), (1, .int (iI st)), (2, .int (iI rank))]) hx hb dX3_itemOfRank_49 hl (by decide) rfl (fun ls hl => ?_)
        refine z_loopR (σ := Int × Int × Int) (fun x9 => [(0, .ref (a 0)), (1, .int (iI st)), (2, .int (iI rank)), (3, .int (iI (zb (0 ≤ st ∧ st < 4)))), (4, .int (iI x9.2.1)), (5, .int (iI x9.2.2)), (6, .int (iI x9.1))]) (fun x9 => (-1 ≤ x9.1 ∧ x9.1 ≤ 5) ∧ ((x9.2.1, x9.2.2) = mRk cn ce st rank (5 - x9.1).toNat) ∧ (0 ≤ x9.2.1 ∧ (x9.2.1 + 1) * 2 ^ (x9.1 + 1).toNat ≤ 64) ∧ (0 ≤ x9.2.2 ∧ x9.2.2 ≤ 1000000)) (fun x9 => (x9.1 + 1).toNat) ?_ (5, 0, rank) (by show (-1 ≤ (5 : Int) ∧ (5 : Int) ≤ 5) ∧ (((0 : Int), rank) = mRk cn ce st rank (5 - (5 : Int)).toNat) ∧ (0 ≤ (0 : Int) ∧ ((0 : Int) + 1) * 2 ^ ((5 : Int) + 1).toNat ≤ 64) ∧ (0 ≤ rank ∧ rank ≤ 1000000); exact ⟨by omega, rfl, by decide, by omega⟩) (lv_sub hl [4, 5, 6, 3, 2, 1, 0] rfl)
        rintro ⟨lev, hf, lf⟩ hI9 ih_51 ls hl
        have hI9 : (-1 ≤ lev ∧ lev ≤ 5) ∧ ((hf, lf) = mRk cn ce st rank (5 - lev).toNat) ∧ (0 ≤ hf ∧ (hf + 1) * 2 ^ (lev + 1).toNat ≤ 64) ∧ (0 ≤ lf ∧ lf ≤ 1000000) := hI9
        obtain ⟨g1, g2, g3, g4⟩ := hI9
        have hl : lv_has ls 8 [(0, .ref (a 0)), (1, .int (iI st)), (2, .int (iI rank)), (3, .int (iI (zb (0 ≤ st ∧ st < 4)))), (4, .int (iI hf)), (5, .int (iI lf)), (6, .int (iI lev))] := hl
        refine lv_iload hx hb dX3_itemOfRank_51 (lv_at hl 6 rfl) ?_
        refine z_if_lt (tgt := 115) hx hb dX3_itemOfRank_53 (by decide) (by omega) (fun c_6 => ?_) (fun c_6 => ?_)
        · have hk : lev = -1 := by omega
          rw [hk] at g2
          have g5 : hf = (mRk cn ce st rank 6).1 := congrArg (fun z => z.1) g2
          refine lv_iload hx hb dX3_itemOfRank_115 (lv_at hl 4 rfl) ?_
          have hz9 : cdRk st rank (tt st) = 0 := by unfold cdRk; (repeat' split) <;> omega
          rw [hz9]
          exact z_retW hx hb hr hlk hW hS (by rw [if_pos rfl]; exact g5) dX3_itemOfRank_117
        · have hP1 := pw_s (x := lev) (by omega)
          rw [hP1] at g3
          have hP0 := pw_pos lev
          have hP2 : (hf + 1) * (2 * 2 ^ lev.toNat) = (2 * hf + 1 + 1) * 2 ^ lev.toNat := by rw [← Int.mul_assoc]; congr 1; omega
          have hP3 : (2 * hf + 1 + 1) * 2 ^ lev.toNat = (2 * hf + 1) * 2 ^ lev.toNat + 2 ^ lev.toNat := by rw [Int.add_mul (2 * hf + 1), Int.one_mul]
          have hQ : (2 * hf + 1 + 1) * 1 ≤ (2 * hf + 1 + 1) * 2 ^ lev.toNat := Int.mul_le_mul_of_nonneg_left (by omega) (by omega)
          refine lv_aload_n hx hb dX3_itemOfRank_56 rfl (lv_at hl 0 rfl) ?_
          refine lv_iload_n hx hb dX3_itemOfRank_57 rfl (lv_at hl 1 rfl) ?_
          refine lv_iload hx hb dX3_itemOfRank_58 (lv_at hl 6 rfl) ?_
          refine lv_iconst (v := iI 2) hx hb dX3_itemOfRank_60 (by rfl) ?_
          refine lv_iload hx hb dX3_itemOfRank_61 (lv_at hl 4 rfl) ?_
          refine z_imul hx hb dX3_itemOfRank_63 ?_
          refine z_cs (W.runV (As := [.int (iI st), .int (iI lev), .int (iI (2 * hf))]) (rest := []) ⟨hx, hb, hml, hown, hts⟩ (kX3_estimateOf l D a kc 0 cn tt ce co it we tk fv st lev (2 * hf) (by omega) (by omega) (by omega) (by omega) (by omega)) (cwV 3 hts (lw_V q846 q848 qs13 q33 q849) rfl rfl rfl (by decide +kernel) ⟨Nat.le_of_ble_eq_true rfl, Nat.le_of_ble_eq_true rfl⟩) ⟨mR_blind, w_recv hK hW 0 (by decide) rfl rfl, mR_pre hW hK⟩ rfl rfl hl.1 rfl (lv_room (Nat.le_of_ble_eq_true rfl)) dX3_itemOfRank_64 ⟨Nat.le_of_ble_eq_true rfl, Nat.le_of_ble_eq_true rfl⟩) ?_
          refine z_top (fun ef e_ef => ?_)
          have hE := mEst_b (cn := cn) hcn hce (by decide) st lev (2 * hf) (by omega)
          rw [← e_ef] at hE
          refine lv_istore (lv' := [(7, .int (iI ef)), (0, .ref (a 0)), (1, .int (iI st)), (2, .int (iI rank)), (3, .int (iI (zb (0 ≤ st ∧ st < 4)))), (4, .int (iI hf)), (5, .int (iI lf)), (6, .int (iI lev))]) hx hb dX3_itemOfRank_67 hl (by decide) rfl (fun ls hl => ?_)
          refine z_dia (P := lf ≤ ef) (x := (2 * hf)) (y := ((2 * hf) + 1)) (pcM := 89) (ls := ls) (rest := []) ?_ (fun j_7t j_7f => ?_)
          · refine z_top (fun h2 e_h2 => ?_)
            have hh2 : 0 ≤ h2 ∧ h2 ≤ 63 := by split at e_h2 <;> omega
            refine lv_istore (lv' := [(4, .int (iI h2)), (7, .int (iI ef)), (0, .ref (a 0)), (1, .int (iI st)), (2, .int (iI rank)), (3, .int (iI (zb (0 ≤ st ∧ st < 4)))), (5, .int (iI lf)), (6, .int (iI lev))]) hx hb dX3_itemOfRank_89 hl (by decide) rfl (fun ls hl => ?_)
            refine lv_iload hx hb dX3_itemOfRank_91 (lv_at hl 6 rfl) ?_
            refine z_dia (P := h2 % 2 = 0) (x := 0) (y := ef) (pcM := 106) (ls := ls) (rest := [.int (iI lf)]) ?_ (fun j_8t j_8f => ?_)
            · refine z_isub hx hb dX3_itemOfRank_106 ?_
              refine lv_istore (lv' := [(5, .int (iI (lf - (if h2 % 2 = 0 then 0 else ef)))), (4, .int (iI h2)), (7, .int (iI ef)), (0, .ref (a 0)), (1, .int (iI st)), (2, .int (iI rank)), (3, .int (iI (zb (0 ≤ st ∧ st < 4)))), (6, .int (iI lev))]) hx hb dX3_itemOfRank_107 hl (by decide) rfl (fun ls hl => ?_)
              refine lv_iinc (v := iI (lev + (-1))) (lv' := [(6, .int (iI (lev + (-1)))), (5, .int (iI (lf - (if h2 % 2 = 0 then 0 else ef)))), (4, .int (iI h2)), (7, .int (iI ef)), (0, .ref (a 0)), (1, .int (iI st)), (2, .int (iI rank)), (3, .int (iI (zb (0 ≤ st ∧ st < 4))))]) hx hb dX3_itemOfRank_109 hl (k := 7) rfl (iI_add _ _) (by decide) rfl (fun ls hl => ?_)
              refine lv_goto (tgt := 51) hx hb dX3_itemOfRank_112 (by decide) ?_
              exact ih_51 ((lev + (-1)), h2, (lf - (if h2 % 2 = 0 then 0 else ef))) (by show (-1 ≤ (lev + (-1)) ∧ (lev + (-1)) ≤ 5) ∧ ((h2, (lf - (if h2 % 2 = 0 then 0 else ef))) = mRk cn ce st rank (5 - (lev + (-1))).toNat) ∧ (0 ≤ h2 ∧ (h2 + 1) * 2 ^ ((lev + (-1)) + 1).toNat ≤ 64) ∧ (0 ≤ (lf - (if h2 % 2 = 0 then 0 else ef)) ∧ (lf - (if h2 % 2 = 0 then 0 else ef)) ≤ 1000000); exact ⟨by omega, by rw [mRk_s (by omega), ← g2, ← e_ef]; (by_cases hc : lf ≤ ef); (simp only [if_pos hc] at e_h2 ⊢; rw [if_pos (by omega), e_h2]; simp); (simp only [if_neg hc] at e_h2 ⊢; rw [if_neg (by omega), e_h2]), by refine ⟨by split at e_h2 <;> omega, ?_⟩; rw [show lev + -1 + 1 = lev by omega]; split at e_h2 <;> (rw [e_h2]; omega), by split at e_h2 <;> split <;> omega⟩) (by show ((lev + (-1)) + 1).toNat < (lev + 1).toNat; omega) ls (lv_sub hl [4, 5, 6, 7, 2, 1, 0] rfl)
            · refine lv_iload hx hb dX3_itemOfRank_93 (lv_at hl 0 rfl) ?_
              refine lv_iconst (v := iI 2) hx hb dX3_itemOfRank_95 (by rfl) ?_
              refine z_irem hx hb dX3_itemOfRank_96 (by omega) (by decide) ?_
              refine z_if_ne (tgt := 104) hx hb dX3_itemOfRank_97 (by decide) (by omega) (fun c_9 => ?_) (fun c_9 => ?_)
              · refine lv_iload hx hb dX3_itemOfRank_104 (lv_at hl 1 rfl) ?_
                exact j_8f (by omega)
              · refine lv_iconst (v := iI 0) hx hb dX3_itemOfRank_100 (by rfl) ?_
                refine lv_goto (tgt := 106) hx hb dX3_itemOfRank_101 (by decide) ?_
                exact j_8t (by omega)
          · refine lv_iload hx hb dX3_itemOfRank_69 (lv_at hl 6 rfl) ?_
            refine lv_iload hx hb dX3_itemOfRank_71 (lv_at hl 0 rfl) ?_
            refine z_icmp_gt (tgt := 83) hx hb dX3_itemOfRank_73 (by decide) (by omega) (by omega) (fun c_10 => ?_) (fun c_10 => ?_)
            · refine lv_iconst (v := iI 2) hx hb dX3_itemOfRank_83 (by rfl) ?_
              refine lv_iload hx hb dX3_itemOfRank_84 (lv_at hl 5 rfl) ?_
              refine z_imul hx hb dX3_itemOfRank_86 ?_
              refine lv_iconst (v := iI 1) hx hb dX3_itemOfRank_87 (by rfl) ?_
              refine z_iadd hx hb dX3_itemOfRank_88 ?_
              exact j_7f (by omega)
            · refine lv_iconst (v := iI 2) hx hb dX3_itemOfRank_76 (by rfl) ?_
              refine lv_iload hx hb dX3_itemOfRank_77 (lv_at hl 5 rfl) ?_
              refine z_imul hx hb dX3_itemOfRank_79 ?_
              refine lv_goto (tgt := 89) hx hb dX3_itemOfRank_80 (by decide) ?_
              exact j_7t (by omega)
      · refine lv_iconst (v := iI 2) hx hb dX3_itemOfRank_29 (by rfl) ?_
        refine lv_goto (tgt := 34) hx hb dX3_itemOfRank_30 (by decide) ?_
        refine va_calli (va_runV (As := [.int (iI 2)]) (rest := []) ⟨hx, hb, hml, hown, hts⟩ (kX3_holds l D a kc th cn tt ce co it we tk fv _ 2 (by omega)) (cwV 1 hts (lw_V q838 q840 qs11 q33 q841) rfl rfl rfl (by decide +kernel) ⟨Nat.le_of_ble_eq_true rfl, Nat.le_of_ble_eq_true rfl⟩) ⟨mW_blind, w_recv hK hW 0 (by decide) rfl rfl, mW_pre hW hK hJ.any⟩ rfl rfl hl.1 rfl (lv_room (Nat.le_of_ble_eq_true rfl)) dX3_itemOfRank_34 ⟨Nat.le_of_ble_eq_true rfl, Nat.le_of_ble_eq_true rfl⟩) hS (fun q _ h => RA.mono hS.1 q h) (RA.mono hS.1) (fun r9 u9 t9 H locs ht9 hvm9 hr9 hB9 hz9 hk9 hS => ?_)
        subst hr9
        have hW : RW D clz mL a (mct a kc 2 cn tt ce co it we tk fv) H := by rw [← ht9]; exact hB9
        refine z_as 0 (by decide) ?_
        refine z_if_ne (tgt := 42) hx hb dX3_itemOfRank_37 (by decide) (by decide) (fun h9 => absurd h9 (by decide)) (fun _ => ?_)
        refine lv_iconst (v := iI 0) hx hb dX3_itemOfRank_40 (by rfl) ?_
        have hz9 : cdRk st rank (tt st) = 2 := by unfold cdRk; (repeat' split) <;> omega
        rw [hz9]
        exact z_retW hx hb hr hlk hW hS (by rw [if_neg (by decide)]) dX3_itemOfRank_41
  · have c_1 := zb_0 c_1
    refine lv_iconst (v := iI 1) hx hb dX3_itemOfRank_10 (by rfl) ?_
    refine lv_goto (tgt := 34) hx hb dX3_itemOfRank_11 (by decide) ?_
    refine va_calli (va_runV (As := [.int (iI 1)]) (rest := []) ⟨hx, hb, hml, hown, hts⟩ (kX3_holds l D a kc th cn tt ce co it we tk fv _ 1 (by omega)) (cwV 1 hts (lw_V q838 q840 qs11 q33 q841) rfl rfl rfl (by decide +kernel) ⟨Nat.le_of_ble_eq_true rfl, Nat.le_of_ble_eq_true rfl⟩) ⟨mW_blind, w_recv hK hW 0 (by decide) rfl rfl, mW_pre hW hK hJ.any⟩ rfl rfl hl.1 rfl (lv_room (Nat.le_of_ble_eq_true rfl)) dX3_itemOfRank_34 ⟨Nat.le_of_ble_eq_true rfl, Nat.le_of_ble_eq_true rfl⟩) hS (fun q _ h => RA.mono hS.1 q h) (RA.mono hS.1) (fun r9 u9 t9 H locs ht9 hvm9 hr9 hB9 hz9 hk9 hS => ?_)
    subst hr9
    have hW : RW D clz mL a (mct a kc 1 cn tt ce co it we tk fv) H := by rw [← ht9]; exact hB9
    refine z_as 0 (by decide) ?_
    refine z_if_ne (tgt := 42) hx hb dX3_itemOfRank_37 (by decide) (by decide) (fun h9 => absurd h9 (by decide)) (fun _ => ?_)
    refine lv_iconst (v := iI 0) hx hb dX3_itemOfRank_40 (by rfl) ?_
    have hz9 : cdRk st rank (tt st) = 1 := by unfold cdRk; (repeat' split) <;> omega
    rw [hz9]
    exact z_retW hx hb hr hlk hW hS (by rw [if_neg (by decide)]) dX3_itemOfRank_41
set_option maxHeartbeats 4000000 in
set_option maxRecDepth 100000 in
theorem kX3_signedCellOf (l : Launch) (D : va_G) (a : Nat → Nat) (kc : Nat → ClassId) (th : Int) (cn tt ce co it we tk fv : Int → Int) (st row col : Int) (hst : 0 ≤ st ∧ st < 4) (hv : 0 ≤ row ∧ row < 5) (hcl : 0 ≤ col ∧ col < 8) : Met l yX3_signedCellOf (ws_ yX3_signedCellOf cX3_signedCellOf 6 (some .int)) ({ frames := 13, cells := 0, slots := 0, locals := 200 }) (va_Pc [.ref (a 0), .int (iI st), .int (iI row), .int (iI col)] (mR D a kc th cn tt ce co it we tk fv)) (vp_Si (fun r => r = iI (mSC cn st row col 64))) 0 0 (fun _ => False) := by
  refine Met.ofW (cc := cX3_signedCellOf) (maxL := 6) (ret := (some .int)) (by decide) rfl ?_
  intro p e s m args below meth c s₁ B hml hv
  obtain ⟨rfl, hW, hK⟩ := hv
  have hx := B.exec
  have hb := B.bytes
  have hr := B.returns
  have hlk := B.notSynchronized
  have hts := atoms_spec (ws := (ws_ yX3_signedCellOf cX3_signedCellOf 6 (some .int))) B.pre
  have hts : ∀ w ∈ lw_all, w.before _ s = true := fun w h => hts w (List.mem_cons_of_mem _ h)
  have hown : s.vm.findClass RX3 = some m.cls := findClass_of_methodNamed B.named
  have hl := lv_entry ([.ref (a 0), .int (iI st), .int (iI row), .int (iI col)]) (n := 6) (Nat.le_of_ble_eq_true rfl)
  rw [lg_entry_eq]
  generalize (lg_sl ([.ref (a 0), .int (iI st), .int (iI row), .int (iI col)]) ++ List.replicate (6 - (lg_sl ([.ref (a 0), .int (iI st), .int (iI row), .int (iI col)])).length) Slot.unset).toArray = ls at hl ⊢
  have hl : lv_has ls 6 [(0, .ref (a 0)), (1, .int (iI st)), (2, .int (iI row)), (3, .int (iI col))] := hl
  refine lv_iconst (v := iI 0) hx hb dX3_signedCellOf_0 (by rfl) ?_
  refine lv_istore (lv' := [(4, .int (iI 0)), (0, .ref (a 0)), (1, .int (iI st)), (2, .int (iI row)), (3, .int (iI col))]) hx hb dX3_signedCellOf_1 hl (by decide) rfl (fun ls hl => ?_)
  refine lv_iconst (v := iI 0) hx hb dX3_signedCellOf_3 (by rfl) ?_
  refine lv_istore (lv' := [(5, .int (iI 0)), (4, .int (iI 0)), (0, .ref (a 0)), (1, .int (iI st)), (2, .int (iI row)), (3, .int (iI col))]) hx hb dX3_signedCellOf_4 hl (by decide) rfl (fun ls hl => ?_)
  refine z_loopR (σ := Int × Int) (fun x9 => [(0, .ref (a 0)), (1, .int (iI st)), (2, .int (iI row)), (3, .int (iI col)), (4, .int (iI x9.2)), (5, .int (iI x9.1))]) (fun x9 => (0 ≤ x9.1 ∧ x9.1 ≤ 64) ∧ (x9.2 = mSC cn st row col x9.1.toNat)) (fun x9 => (64 - x9.1).toNat) ?_ (0, 0) (by show (0 ≤ (0 : Int) ∧ (0 : Int) ≤ 64) ∧ ((0 : Int) = mSC cn st row col (0 : Int).toNat); exact ⟨by omega, rfl⟩) (lv_sub hl [2, 3, 4, 5, 1, 0] rfl)
  rintro ⟨i, acc⟩ hI9 ih_6 ls hl
  have hI9 : (0 ≤ i ∧ i ≤ 64) ∧ (acc = mSC cn st row col i.toNat) := hI9
  obtain ⟨h1, h2⟩ := hI9
  have hl : lv_has ls 6 [(0, .ref (a 0)), (1, .int (iI st)), (2, .int (iI row)), (3, .int (iI col)), (4, .int (iI acc)), (5, .int (iI i))] := hl
  refine lv_iload hx hb dX3_signedCellOf_6 (lv_at hl 5 rfl) ?_
  refine lv_bipush (v := iI 64) hx hb dX3_signedCellOf_8 (by rfl) ?_
  refine z_icmp_ge (tgt := 57) hx hb dX3_signedCellOf_10 (by decide) (by omega) (by decide) (fun c_1 => ?_) (fun c_1 => ?_)
  · refine lv_iload hx hb dX3_signedCellOf_57 (lv_at hl 4 rfl) ?_
    exact z_retS hx hb hr hlk (by rw [h2, show i = 64 by omega]; rfl) dX3_signedCellOf_59
  · refine lv_iload hx hb dX3_signedCellOf_13 (lv_at hl 4 rfl) ?_
    have hb9 := mSCol_b row i
    refine z_dia (P := mSCol row i = col) (x := ((mSgn row i) * (cn ((64 * st) + i)))) (y := 0) (pcM := 48) (ls := ls) (rest := [.int (iI acc)]) ?_ (fun j_2t j_2f => ?_)
    · refine z_iadd hx hb dX3_signedCellOf_48 ?_
      refine lv_istore (lv' := [(4, .int (iI (acc + (if mSCol row i = col then (mSgn row i) * (cn ((64 * st) + i)) else 0)))), (0, .ref (a 0)), (1, .int (iI st)), (2, .int (iI row)), (3, .int (iI col)), (5, .int (iI i))]) hx hb dX3_signedCellOf_49 hl (by decide) rfl (fun ls hl => ?_)
      refine lv_iinc (v := iI (i + 1)) (lv' := [(5, .int (iI (i + 1))), (4, .int (iI (acc + (if mSCol row i = col then (mSgn row i) * (cn ((64 * st) + i)) else 0)))), (0, .ref (a 0)), (1, .int (iI st)), (2, .int (iI row)), (3, .int (iI col))]) hx hb dX3_signedCellOf_51 hl (k := 5) rfl (iI_add _ _) (by decide) rfl (fun ls hl => ?_)
      refine lv_goto (tgt := 6) hx hb dX3_signedCellOf_54 (by decide) ?_
      exact ih_6 ((i + 1), (acc + (if mSCol row i = col then (mSgn row i) * (cn ((64 * st) + i)) else 0))) (by show (0 ≤ (i + 1) ∧ (i + 1) ≤ 64) ∧ ((acc + (if mSCol row i = col then (mSgn row i) * (cn ((64 * st) + i)) else 0)) = mSC cn st row col (i + 1).toNat); exact ⟨by omega, by rw [mSC_s (by omega), ← h2]⟩) (by show (64 - (i + 1)).toNat < (64 - i).toNat; omega) ls (lv_sub hl [2, 3, 4, 5, 1, 0] rfl)
    · refine lv_iload_n hx hb dX3_signedCellOf_15 rfl (lv_at hl 2 rfl) ?_
      refine lv_iload hx hb dX3_signedCellOf_16 (lv_at hl 5 rfl) ?_
      refine z_cs (W.runS (As := [.int (iI row), .int (iI i)]) (rest := [.int (iI acc)]) ⟨hx, hb, hml, hown, hts⟩ (kX3_signedColumnOf l row i (by omega) (by omega)) (va_cwS 2 hts (lw_S q973 q974 q33 q975) rfl rfl rfl (by decide +kernel) ⟨Nat.le_of_ble_eq_true rfl, Nat.le_of_ble_eq_true rfl⟩) ⟨fun _ _ _ _ q => q, fun _ _ _ => ⟨rfl, trivial⟩⟩ rfl rfl hl.1 rfl (lv_room (Nat.le_of_ble_eq_true rfl)) dX3_signedCellOf_18 ⟨Nat.le_of_ble_eq_true rfl, Nat.le_of_ble_eq_true rfl⟩) ?_
      refine lv_iload_n hx hb dX3_signedCellOf_21 rfl (lv_at hl 3 rfl) ?_
      refine z_icmp_ne (tgt := 47) hx hb dX3_signedCellOf_22 (by decide) (by omega) (by omega) (fun c_3 => ?_) (fun c_3 => ?_)
      · refine lv_iconst (v := iI 0) hx hb dX3_signedCellOf_47 (by rfl) ?_
        exact j_2f (by omega)
      · refine lv_iload_n hx hb dX3_signedCellOf_25 rfl (lv_at hl 2 rfl) ?_
        refine lv_iload hx hb dX3_signedCellOf_26 (lv_at hl 5 rfl) ?_
        refine z_cs (W.runS (As := [.int (iI row), .int (iI i)]) (rest := [.int (iI acc)]) ⟨hx, hb, hml, hown, hts⟩ (kX3_signOf l row i (by omega) (by omega)) (va_cwS 2 hts (lw_S q980 q981 q33 q982) rfl rfl rfl (by decide +kernel) ⟨Nat.le_of_ble_eq_true rfl, Nat.le_of_ble_eq_true rfl⟩) ⟨fun _ _ _ _ q => q, fun _ _ _ => ⟨rfl, trivial⟩⟩ rfl rfl hl.1 rfl (lv_room (Nat.le_of_ble_eq_true rfl)) dX3_signedCellOf_28 ⟨Nat.le_of_ble_eq_true rfl, Nat.le_of_ble_eq_true rfl⟩) ?_
        refine lv_aload_n hx hb dX3_signedCellOf_31 rfl (lv_at hl 0 rfl) ?_
        refine w_getf (ci := 0) (v := .ref (a 1)) (C := RX3) (T := TX3) (N := 9) hx hb hts in_X3 hown hK hW 0 (by decide) rfl rfl 1 (by decide) (hts _ q796) (fun _ h9 => h9) rfl dX3_signedCellOf_32 ?_
        refine lv_bipush (v := iI 64) hx hb dX3_signedCellOf_35 (by rfl) ?_
        refine lv_iload_n hx hb dX3_signedCellOf_37 rfl (lv_at hl 1 rfl) ?_
        refine z_imul hx hb dX3_signedCellOf_38 ?_
        refine lv_iload hx hb dX3_signedCellOf_39 (lv_at hl 5 rfl) ?_
        refine z_iadd hx hb dX3_signedCellOf_41 ?_
        refine w_iald hx hb hK hW 1 0 (by decide) (n := 256) (g := cn) rfl rfl (by omega) (by decide) dX3_signedCellOf_42 ?_
        refine z_imul hx hb dX3_signedCellOf_43 ?_
        refine lv_goto (tgt := 48) hx hb dX3_signedCellOf_44 (by decide) ?_
        exact j_2t (by omega)
set_option maxHeartbeats 4000000 in
set_option maxRecDepth 100000 in
theorem kX3_signedCell (l : Launch) (D : va_G) (a : Nat → Nat) (kc : Nat → ClassId) (th : Int) (cn tt ce co it we tk fv : Int → Int) (sz : Nat) (st row col : Int) (h_st : -2147483648 ≤ st ∧ st ≤ 2147483647) (h_row : -2147483648 ≤ row ∧ row ≤ 2147483647) (h_col : -2147483648 ≤ col ∧ col ≤ 2147483647) : Met l yX3_signedCell (ws_ yX3_signedCell cX3_signedCell 5 (some .int)) ({ frames := 15, cells := 0, slots := 0, locals := 280 }) (va_Pc [.ref (a 0), .int (iI st), .int (iI row), .int (iI col)] (mW D a kc th cn tt ce co it we tk fv sz)) (va_Qi (fun (r : Int32) (_ : Unit) => r = iI (if cdSC st row col = 0 then mSC cn st row col 64 else 0)) (fun (_ : Unit) t8 => RW D clz mL a (mct a kc (cdSC st row col) cn tt ce co it we tk fv) t8.heap) (RA mL a sz)) 0 0 (RA mL a sz) := by
  refine Met.ofW (cc := cX3_signedCell) (maxL := 5) (ret := (some .int)) (by decide) rfl ?_
  intro p e s m args below meth c s₁ B hml hv
  obtain ⟨rfl, hsz, hW, hK, hJ0⟩ := hv
  subst hsz
  have hJ := hJ0.self (sz := s.heap.size)
  have hS : va_S (RA mL a s.heap.size) s.heap s.heap [] := va_S.rf
  have hx := B.exec
  have hb := B.bytes
  have hr := B.returns
  have hlk := B.notSynchronized
  have hts := atoms_spec (ws := (ws_ yX3_signedCell cX3_signedCell 5 (some .int))) B.pre
  have hts : ∀ w ∈ lw_all, w.before _ s = true := fun w h => hts w (List.mem_cons_of_mem _ h)
  have hown : s.vm.findClass RX3 = some m.cls := findClass_of_methodNamed B.named
  have hl := lv_entry ([.ref (a 0), .int (iI st), .int (iI row), .int (iI col)]) (n := 5) (Nat.le_of_ble_eq_true rfl)
  rw [lg_entry_eq]
  generalize (lg_sl ([.ref (a 0), .int (iI st), .int (iI row), .int (iI col)]) ++ List.replicate (5 - (lg_sl ([.ref (a 0), .int (iI st), .int (iI row), .int (iI col)])).length) Slot.unset).toArray = ls at hl ⊢
  have hl : lv_has ls 5 [(0, .ref (a 0)), (1, .int (iI st)), (2, .int (iI row)), (3, .int (iI col))] := hl
  refine lv_iload_n hx hb dX3_signedCell_0 rfl (lv_at hl 1 rfl) ?_
  refine z_cs (W.runS (As := [.int (iI st)]) (rest := []) ⟨hx, hb, hml, hown, hts⟩ (kX3_isStream l st (by omega)) (va_cwS 1 hts (lw_S q831 q832 q33 q833) rfl rfl rfl (by decide +kernel) ⟨Nat.le_of_ble_eq_true rfl, Nat.le_of_ble_eq_true rfl⟩) ⟨fun _ _ _ _ q => q, fun _ _ _ => ⟨rfl, trivial⟩⟩ rfl rfl hl.1 rfl (lv_room (Nat.le_of_ble_eq_true rfl)) dX3_signedCell_1 ⟨Nat.le_of_ble_eq_true rfl, Nat.le_of_ble_eq_true rfl⟩) ?_
  refine z_if_eq (tgt := 28) hx hb dX3_signedCell_4 (by decide) (zb_r _) (fun c_1 => ?_) (fun c_1 => ?_)
  · have c_1 := zb_0 c_1
    refine lv_iconst (v := iI 0) hx hb dX3_signedCell_28 (by rfl) ?_
    refine lv_istore (lv' := [(4, .int (iI 0)), (0, .ref (a 0)), (1, .int (iI st)), (2, .int (iI row)), (3, .int (iI col))]) hx hb dX3_signedCell_29 hl (by decide) rfl (fun ls hl => ?_)
    refine lv_aload_n hx hb dX3_signedCell_31 rfl (lv_at hl 1 rfl) ?_
    refine lv_iload hx hb dX3_signedCell_32 (lv_at hl 0 rfl) ?_
    refine z_if_eq (tgt := 41) hx hb dX3_signedCell_34 (by decide) (by decide) (fun _ => ?_) (fun h9 => absurd h9 (by decide))
    refine lv_iconst (v := iI 1) hx hb dX3_signedCell_41 (by rfl) ?_
    refine va_calli (va_runV (As := [.int (iI 1)]) (rest := []) ⟨hx, hb, hml, hown, hts⟩ (kX3_holds l D a kc th cn tt ce co it we tk fv _ 1 (by omega)) (cwV 1 hts (lw_V q838 q840 qs11 q33 q841) rfl rfl rfl (by decide +kernel) ⟨Nat.le_of_ble_eq_true rfl, Nat.le_of_ble_eq_true rfl⟩) ⟨mW_blind, w_recv hK hW 0 (by decide) rfl rfl, mW_pre hW hK hJ.any⟩ rfl rfl hl.1 rfl (lv_room (Nat.le_of_ble_eq_true rfl)) dX3_signedCell_42 ⟨Nat.le_of_ble_eq_true rfl, Nat.le_of_ble_eq_true rfl⟩) hS (fun q _ h => RA.mono hS.1 q h) (RA.mono hS.1) (fun r9 u9 t9 H locs ht9 hvm9 hr9 hB9 hz9 hk9 hS => ?_)
    subst hr9
    have hW : RW D clz mL a (mct a kc 1 cn tt ce co it we tk fv) H := by rw [← ht9]; exact hB9
    refine z_as 0 (by decide) ?_
    refine z_if_eq (tgt := 58) hx hb dX3_signedCell_45 (by decide) (by decide) (fun _ => ?_) (fun h9 => absurd h9 (by decide))
    refine lv_iconst (v := iI 0) hx hb dX3_signedCell_58 (by rfl) ?_
    have hz9 : cdSC st row col = 1 := by unfold cdSC; (repeat' split) <;> omega
    rw [hz9]
    exact z_retW hx hb hr hlk hW hS (by rw [if_neg (by decide)]) dX3_signedCell_59
  · have c_1 := zb_1 c_1
    refine lv_iload_n hx hb dX3_signedCell_7 rfl (lv_at hl 2 rfl) ?_
    refine lv_iconst (v := iI 5) hx hb dX3_signedCell_8 (by rfl) ?_
    refine z_cs (W.runS (As := [.int (iI row), .int (iI 5)]) (rest := []) ⟨hx, hb, hml, hown, hts⟩ (kX3_isIn l row 5 (by omega) (by omega)) (va_cwS 2 hts (lw_S q834 q835 q33 q836) rfl rfl rfl (by decide +kernel) ⟨Nat.le_of_ble_eq_true rfl, Nat.le_of_ble_eq_true rfl⟩) ⟨fun _ _ _ _ q => q, fun _ _ _ => ⟨rfl, trivial⟩⟩ rfl rfl hl.1 rfl (lv_room (Nat.le_of_ble_eq_true rfl)) dX3_signedCell_9 ⟨Nat.le_of_ble_eq_true rfl, Nat.le_of_ble_eq_true rfl⟩) ?_
    refine z_if_eq (tgt := 28) hx hb dX3_signedCell_12 (by decide) (zb_r _) (fun c_4 => ?_) (fun c_4 => ?_)
    · have c_4 := zb_0 c_4
      refine lv_iconst (v := iI 0) hx hb dX3_signedCell_28 (by rfl) ?_
      refine lv_istore (lv' := [(4, .int (iI 0)), (0, .ref (a 0)), (1, .int (iI st)), (2, .int (iI row)), (3, .int (iI col))]) hx hb dX3_signedCell_29 hl (by decide) rfl (fun ls hl => ?_)
      refine lv_aload_n hx hb dX3_signedCell_31 rfl (lv_at hl 1 rfl) ?_
      refine lv_iload hx hb dX3_signedCell_32 (lv_at hl 0 rfl) ?_
      refine z_if_eq (tgt := 41) hx hb dX3_signedCell_34 (by decide) (by decide) (fun _ => ?_) (fun h9 => absurd h9 (by decide))
      refine lv_iconst (v := iI 1) hx hb dX3_signedCell_41 (by rfl) ?_
      refine va_calli (va_runV (As := [.int (iI 1)]) (rest := []) ⟨hx, hb, hml, hown, hts⟩ (kX3_holds l D a kc th cn tt ce co it we tk fv _ 1 (by omega)) (cwV 1 hts (lw_V q838 q840 qs11 q33 q841) rfl rfl rfl (by decide +kernel) ⟨Nat.le_of_ble_eq_true rfl, Nat.le_of_ble_eq_true rfl⟩) ⟨mW_blind, w_recv hK hW 0 (by decide) rfl rfl, mW_pre hW hK hJ.any⟩ rfl rfl hl.1 rfl (lv_room (Nat.le_of_ble_eq_true rfl)) dX3_signedCell_42 ⟨Nat.le_of_ble_eq_true rfl, Nat.le_of_ble_eq_true rfl⟩) hS (fun q _ h => RA.mono hS.1 q h) (RA.mono hS.1) (fun r9 u9 t9 H locs ht9 hvm9 hr9 hB9 hz9 hk9 hS => ?_)
      subst hr9
      have hW : RW D clz mL a (mct a kc 1 cn tt ce co it we tk fv) H := by rw [← ht9]; exact hB9
      refine z_as 0 (by decide) ?_
      refine z_if_eq (tgt := 58) hx hb dX3_signedCell_45 (by decide) (by decide) (fun _ => ?_) (fun h9 => absurd h9 (by decide))
      refine lv_iconst (v := iI 0) hx hb dX3_signedCell_58 (by rfl) ?_
      have hz9 : cdSC st row col = 1 := by unfold cdSC; (repeat' split) <;> omega
      rw [hz9]
      exact z_retW hx hb hr hlk hW hS (by rw [if_neg (by decide)]) dX3_signedCell_59
    · have c_4 := zb_1 c_4
      refine lv_iload_n hx hb dX3_signedCell_15 rfl (lv_at hl 3 rfl) ?_
      refine lv_bipush (v := iI 8) hx hb dX3_signedCell_16 (by rfl) ?_
      refine z_cs (W.runS (As := [.int (iI col), .int (iI 8)]) (rest := []) ⟨hx, hb, hml, hown, hts⟩ (kX3_isIn l col 8 (by omega) (by omega)) (va_cwS 2 hts (lw_S q834 q835 q33 q836) rfl rfl rfl (by decide +kernel) ⟨Nat.le_of_ble_eq_true rfl, Nat.le_of_ble_eq_true rfl⟩) ⟨fun _ _ _ _ q => q, fun _ _ _ => ⟨rfl, trivial⟩⟩ rfl rfl hl.1 rfl (lv_room (Nat.le_of_ble_eq_true rfl)) dX3_signedCell_18 ⟨Nat.le_of_ble_eq_true rfl, Nat.le_of_ble_eq_true rfl⟩) ?_
      refine z_if_eq (tgt := 28) hx hb dX3_signedCell_21 (by decide) (zb_r _) (fun c_7 => ?_) (fun c_7 => ?_)
      · have c_7 := zb_0 c_7
        refine lv_iconst (v := iI 0) hx hb dX3_signedCell_28 (by rfl) ?_
        refine lv_istore (lv' := [(4, .int (iI 0)), (0, .ref (a 0)), (1, .int (iI st)), (2, .int (iI row)), (3, .int (iI col))]) hx hb dX3_signedCell_29 hl (by decide) rfl (fun ls hl => ?_)
        refine lv_aload_n hx hb dX3_signedCell_31 rfl (lv_at hl 1 rfl) ?_
        refine lv_iload hx hb dX3_signedCell_32 (lv_at hl 0 rfl) ?_
        refine z_if_eq (tgt := 41) hx hb dX3_signedCell_34 (by decide) (by decide) (fun _ => ?_) (fun h9 => absurd h9 (by decide))
        refine lv_iconst (v := iI 1) hx hb dX3_signedCell_41 (by rfl) ?_
        refine va_calli (va_runV (As := [.int (iI 1)]) (rest := []) ⟨hx, hb, hml, hown, hts⟩ (kX3_holds l D a kc th cn tt ce co it we tk fv _ 1 (by omega)) (cwV 1 hts (lw_V q838 q840 qs11 q33 q841) rfl rfl rfl (by decide +kernel) ⟨Nat.le_of_ble_eq_true rfl, Nat.le_of_ble_eq_true rfl⟩) ⟨mW_blind, w_recv hK hW 0 (by decide) rfl rfl, mW_pre hW hK hJ.any⟩ rfl rfl hl.1 rfl (lv_room (Nat.le_of_ble_eq_true rfl)) dX3_signedCell_42 ⟨Nat.le_of_ble_eq_true rfl, Nat.le_of_ble_eq_true rfl⟩) hS (fun q _ h => RA.mono hS.1 q h) (RA.mono hS.1) (fun r9 u9 t9 H locs ht9 hvm9 hr9 hB9 hz9 hk9 hS => ?_)
        subst hr9
        have hW : RW D clz mL a (mct a kc 1 cn tt ce co it we tk fv) H := by rw [← ht9]; exact hB9
        refine z_as 0 (by decide) ?_
        refine z_if_eq (tgt := 58) hx hb dX3_signedCell_45 (by decide) (by decide) (fun _ => ?_) (fun h9 => absurd h9 (by decide))
        refine lv_iconst (v := iI 0) hx hb dX3_signedCell_58 (by rfl) ?_
        have hz9 : cdSC st row col = 1 := by unfold cdSC; (repeat' split) <;> omega
        rw [hz9]
        exact z_retW hx hb hr hlk hW hS (by rw [if_neg (by decide)]) dX3_signedCell_59
      · have c_7 := zb_1 c_7
        refine lv_iconst (v := iI 1) hx hb dX3_signedCell_24 (by rfl) ?_
        refine lv_goto (tgt := 29) hx hb dX3_signedCell_25 (by decide) ?_
        refine lv_istore (lv' := [(4, .int (iI 1)), (0, .ref (a 0)), (1, .int (iI st)), (2, .int (iI row)), (3, .int (iI col))]) hx hb dX3_signedCell_29 hl (by decide) rfl (fun ls hl => ?_)
        refine lv_aload_n hx hb dX3_signedCell_31 rfl (lv_at hl 1 rfl) ?_
        refine lv_iload hx hb dX3_signedCell_32 (lv_at hl 0 rfl) ?_
        refine z_if_eq (tgt := 41) hx hb dX3_signedCell_34 (by decide) (by decide) (fun h9 => absurd h9 (by decide)) (fun _ => ?_)
        refine lv_iconst (v := iI 0) hx hb dX3_signedCell_37 (by rfl) ?_
        refine lv_goto (tgt := 42) hx hb dX3_signedCell_38 (by decide) ?_
        refine va_calli (va_runV (As := [.int (iI 0)]) (rest := []) ⟨hx, hb, hml, hown, hts⟩ (kX3_holds l D a kc th cn tt ce co it we tk fv _ 0 (by omega)) (cwV 1 hts (lw_V q838 q840 qs11 q33 q841) rfl rfl rfl (by decide +kernel) ⟨Nat.le_of_ble_eq_true rfl, Nat.le_of_ble_eq_true rfl⟩) ⟨mW_blind, w_recv hK hW 0 (by decide) rfl rfl, mW_pre hW hK hJ.any⟩ rfl rfl hl.1 rfl (lv_room (Nat.le_of_ble_eq_true rfl)) dX3_signedCell_42 ⟨Nat.le_of_ble_eq_true rfl, Nat.le_of_ble_eq_true rfl⟩) hS (fun q _ h => RA.mono hS.1 q h) (RA.mono hS.1) (fun r9 u9 t9 H locs ht9 hvm9 hr9 hB9 hz9 hk9 hS => ?_)
        subst hr9
        have hW : RW D clz mL a (mct a kc 0 cn tt ce co it we tk fv) H := by rw [← ht9]; exact hB9
        refine z_as 1 (by decide) ?_
        refine z_if_eq (tgt := 58) hx hb dX3_signedCell_45 (by decide) (by decide) (fun h9 => absurd h9 (by decide)) (fun _ => ?_)
        refine lv_aload_n hx hb dX3_signedCell_48 rfl (lv_at hl 1 rfl) ?_
        refine lv_iload_n hx hb dX3_signedCell_49 rfl (lv_at hl 2 rfl) ?_
        refine lv_iload_n hx hb dX3_signedCell_50 rfl (lv_at hl 3 rfl) ?_
        refine lv_iload_n hx hb dX3_signedCell_51 rfl (lv_at hl 4 rfl) ?_
        refine z_cs (W.runV (As := [.int (iI st), .int (iI row), .int (iI col)]) (rest := []) ⟨hx, hb, hml, hown, hts⟩ (kX3_signedCellOf l D a kc 0 cn tt ce co it we tk fv st row col (by omega) (by omega) (by omega)) (cwV 3 hts (lw_V q987 q989 qs25 q33 q990) rfl rfl rfl (by decide +kernel) ⟨Nat.le_of_ble_eq_true rfl, Nat.le_of_ble_eq_true rfl⟩) ⟨mR_blind, w_recv hK hW 0 (by decide) rfl rfl, mR_pre hW hK⟩ rfl rfl hl.1 rfl (lv_room (Nat.le_of_ble_eq_true rfl)) dX3_signedCell_52 ⟨Nat.le_of_ble_eq_true rfl, Nat.le_of_ble_eq_true rfl⟩) ?_
        refine lv_goto (tgt := 59) hx hb dX3_signedCell_55 (by decide) ?_
        have hz9 : cdSC st row col = 0 := by unfold cdSC; (repeat' split) <;> omega
        rw [hz9]
        exact z_retW hx hb hr hlk hW hS (by rw [if_pos rfl]) dX3_signedCell_59
set_option maxHeartbeats 4000000 in
set_option maxRecDepth 100000 in
theorem kX3_middle (l : Launch) (D : va_G) (a : Nat → Nat) (kc : Nat → ClassId) (th : Int) (cn tt ce co it we tk fv : Int → Int) (hfv : ∀ j9 : Int, 0 ≤ j9 → j9 < 5 → -1000000000000000000 ≤ fv j9 ∧ fv j9 ≤ 1000000000000000000) : Met l yX3_middle (ws_ yX3_middle cX3_middle 7 (some .long)) ({ frames := 12, cells := 0, slots := 0, locals := 160 }) (va_Pc [.ref (a 0)] (mR D a kc th cn tt ce co it we tk fv)) (vp_Sl (fun r => r = lI (mMid fv 5))) 0 0 (fun _ => False) := by
  refine Met.ofW (cc := cX3_middle) (maxL := 7) (ret := (some .long)) (by decide) rfl ?_
  intro p e s m args below meth c s₁ B hml hv
  obtain ⟨rfl, hW, hK⟩ := hv
  have hx := B.exec
  have hb := B.bytes
  have hr := B.returns
  have hlk := B.notSynchronized
  have hts := atoms_spec (ws := (ws_ yX3_middle cX3_middle 7 (some .long))) B.pre
  have hts : ∀ w ∈ lw_all, w.before _ s = true := fun w h => hts w (List.mem_cons_of_mem _ h)
  have hown : s.vm.findClass RX3 = some m.cls := findClass_of_methodNamed B.named
  have hl := lv_entry ([.ref (a 0)]) (n := 7) (Nat.le_of_ble_eq_true rfl)
  rw [lg_entry_eq]
  generalize (lg_sl ([.ref (a 0)]) ++ List.replicate (7 - (lg_sl ([.ref (a 0)])).length) Slot.unset).toArray = ls at hl ⊢
  have hl : lv_has ls 7 [(0, .ref (a 0))] := hl
  refine lv_lconst (v := lI 0) hx hb dX3_middle_0 (by rfl) ?_
  refine lv_lstore_n (lv' := [(1, .long (lI 0)), (0, .ref (a 0))]) hx hb dX3_middle_1 rfl hl (by decide) rfl (fun ls hl => ?_)
  refine lv_iconst (v := iI 0) hx hb dX3_middle_2 (by rfl) ?_
  refine lv_istore_n (lv' := [(3, .int (iI 0)), (1, .long (lI 0)), (0, .ref (a 0))]) hx hb dX3_middle_3 rfl hl (by decide) rfl (fun ls hl => ?_)
  refine z_loopR (σ := Int × Int) (fun x9 => [(0, .ref (a 0)), (1, .long (lI x9.2)), (3, .int (iI x9.1))]) (fun x9 => (0 ≤ x9.1 ∧ x9.1 ≤ 5) ∧ (x9.2 = mMid fv x9.1.toNat)) (fun x9 => (5 - x9.1).toNat) ?_ (0, 0) (by show (0 ≤ (0 : Int) ∧ (0 : Int) ≤ 5) ∧ ((0 : Int) = mMid fv (0 : Int).toNat); exact ⟨by omega, rfl⟩) (lv_sub hl [2, 1, 0] rfl)
  rintro ⟨k, fd⟩ hI9 ih_4 ls hl
  have hI9 : (0 ≤ k ∧ k ≤ 5) ∧ (fd = mMid fv k.toNat) := hI9
  obtain ⟨h1, h2⟩ := hI9
  have hl : lv_has ls 7 [(0, .ref (a 0)), (1, .long (lI fd)), (3, .int (iI k))] := hl
  refine lv_iload_n hx hb dX3_middle_4 rfl (lv_at hl 2 rfl) ?_
  refine lv_iconst (v := iI 5) hx hb dX3_middle_5 (by rfl) ?_
  refine z_icmp_ge (tgt := 113) hx hb dX3_middle_6 (by decide) (by omega) (by decide) (fun c_1 => ?_) (fun c_1 => ?_)
  · refine lv_lload_n hx hb dX3_middle_113 rfl (lv_at hl 1 rfl) ?_
    exact z_retSl hx hb hr hlk (by rw [h2, show k = 5 by omega]; rfl) dX3_middle_114
  · have hfk := hfv k (by omega) (by omega)
    refine lv_iconst (v := iI 0) hx hb dX3_middle_9 (by rfl) ?_
    refine lv_istore (lv' := [(4, .int (iI 0)), (0, .ref (a 0)), (1, .long (lI fd)), (3, .int (iI k))]) hx hb dX3_middle_10 hl (by decide) rfl (fun ls hl => ?_)
    refine lv_iconst (v := iI 0) hx hb dX3_middle_12 (by rfl) ?_
    refine lv_istore (lv' := [(5, .int (iI 0)), (4, .int (iI 0)), (0, .ref (a 0)), (1, .long (lI fd)), (3, .int (iI k))]) hx hb dX3_middle_13 hl (by decide) rfl (fun ls hl => ?_)
    refine lv_iconst (v := iI 0) hx hb dX3_middle_15 (by rfl) ?_
    refine lv_istore (lv' := [(6, .int (iI 0)), (5, .int (iI 0)), (4, .int (iI 0)), (0, .ref (a 0)), (1, .long (lI fd)), (3, .int (iI k))]) hx hb dX3_middle_16 hl (by decide) rfl (fun ls hl => ?_)
    refine z_loopR (σ := Int × Int × Int) (fun x9 => [(0, .ref (a 0)), (1, .long (lI fd)), (3, .int (iI k)), (4, .int (iI x9.2.1)), (5, .int (iI x9.2.2)), (6, .int (iI x9.1))]) (fun x9 => (0 ≤ x9.1 ∧ x9.1 ≤ 5) ∧ (x9.2.1 = mLs fv (fv k) x9.1.toNat) ∧ (x9.2.2 = mGr fv (fv k) x9.1.toNat) ∧ (0 ≤ x9.2.1 ∧ x9.2.1 ≤ x9.1) ∧ (0 ≤ x9.2.2 ∧ x9.2.2 ≤ x9.1)) (fun x9 => (5 - x9.1).toNat) ?_ (0, 0, 0) (by show (0 ≤ (0 : Int) ∧ (0 : Int) ≤ 5) ∧ ((0 : Int) = mLs fv (fv k) (0 : Int).toNat) ∧ ((0 : Int) = mGr fv (fv k) (0 : Int).toNat) ∧ (0 ≤ (0 : Int) ∧ (0 : Int) ≤ (0 : Int)) ∧ (0 ≤ (0 : Int) ∧ (0 : Int) ≤ (0 : Int)); exact ⟨by omega, rfl, rfl, by omega, by omega⟩) (lv_sub hl [3, 4, 5, 2, 1, 0] rfl)
    rintro ⟨o, lx, gx⟩ hI9 ih_18 ls hl
    have hI9 : (0 ≤ o ∧ o ≤ 5) ∧ (lx = mLs fv (fv k) o.toNat) ∧ (gx = mGr fv (fv k) o.toNat) ∧ (0 ≤ lx ∧ lx ≤ o) ∧ (0 ≤ gx ∧ gx ≤ o) := hI9
    obtain ⟨g1, g2, g3, g4, g5⟩ := hI9
    have hl : lv_has ls 7 [(0, .ref (a 0)), (1, .long (lI fd)), (3, .int (iI k)), (4, .int (iI lx)), (5, .int (iI gx)), (6, .int (iI o))] := hl
    refine lv_iload hx hb dX3_middle_18 (lv_at hl 5 rfl) ?_
    refine lv_iconst (v := iI 5) hx hb dX3_middle_20 (by rfl) ?_
    refine z_icmp_ge (tgt := 84) hx hb dX3_middle_21 (by decide) (by omega) (by decide) (fun c_2 => ?_) (fun c_2 => ?_)
    · have ho : o = 5 := by omega
      have ho9 : lx = mLs fv (fv k) 5 := by rw [g2, ho]; rfl
      have ho8 : gx = mGr fv (fv k) 5 := by rw [g3, ho]; rfl
      refine z_diaL (P := lx ≤ 2 ∧ gx ≤ 2) (x := (fv k)) (y := fd) (pcM := 106) (ls := ls) (rest := []) ?_ (fun j_3t j_3f => ?_)
      · refine lv_lstore_n (lv' := [(1, .long (lI (if lx ≤ 2 ∧ gx ≤ 2 then fv k else fd))), (0, .ref (a 0)), (3, .int (iI k)), (4, .int (iI lx)), (5, .int (iI gx)), (6, .int (iI o))]) hx hb dX3_middle_106 rfl hl (by decide) rfl (fun ls hl => ?_)
        refine lv_iinc (v := iI (k + 1)) (lv' := [(3, .int (iI (k + 1))), (1, .long (lI (if lx ≤ 2 ∧ gx ≤ 2 then fv k else fd))), (0, .ref (a 0)), (4, .int (iI lx)), (5, .int (iI gx)), (6, .int (iI o))]) hx hb dX3_middle_107 hl (k := 2) rfl (iI_add _ _) (by decide) rfl (fun ls hl => ?_)
        refine lv_goto (tgt := 4) hx hb dX3_middle_110 (by decide) ?_
        exact ih_4 ((k + 1), ((if lx ≤ 2 ∧ gx ≤ 2 then fv k else fd))) (by show (0 ≤ (k + 1) ∧ (k + 1) ≤ 5) ∧ ((if lx ≤ 2 ∧ gx ≤ 2 then fv k else fd) = mMid fv (k + 1).toNat); exact ⟨by omega, by rw [mMid_s (by omega), ← h2, ← ho9, ← ho8]⟩) (by show (5 - (k + 1)).toNat < (5 - k).toNat; omega) ls (lv_sub hl [2, 1, 0] rfl)
      · refine lv_iload hx hb dX3_middle_84 (lv_at hl 3 rfl) ?_
        refine lv_iconst (v := iI 2) hx hb dX3_middle_86 (by rfl) ?_
        refine z_icmp_gt (tgt := 105) hx hb dX3_middle_87 (by decide) (by omega) (by decide) (fun c_4 => ?_) (fun c_4 => ?_)
        · refine lv_lload_n hx hb dX3_middle_105 rfl (lv_at hl 1 rfl) ?_
          exact j_3f (by omega)
        · refine lv_iload hx hb dX3_middle_90 (lv_at hl 4 rfl) ?_
          refine lv_iconst (v := iI 2) hx hb dX3_middle_92 (by rfl) ?_
          refine z_icmp_gt (tgt := 105) hx hb dX3_middle_93 (by decide) (by omega) (by decide) (fun c_5 => ?_) (fun c_5 => ?_)
          · refine lv_lload_n hx hb dX3_middle_105 rfl (lv_at hl 1 rfl) ?_
            exact j_3f (by omega)
          · refine lv_aload_n hx hb dX3_middle_96 rfl (lv_at hl 0 rfl) ?_
            refine w_getf (ci := 0) (v := .ref (a 8)) (C := RX3) (T := TX3) (N := 9) hx hb hts in_X3 hown hK hW 0 (by decide) rfl rfl 8 (by decide) (hts _ q803) (fun _ h9 => h9) rfl dX3_middle_97 ?_
            refine lv_iload_n hx hb dX3_middle_100 rfl (lv_at hl 2 rfl) ?_
            refine w_lald hx hb hK hW 8 1 (by decide) (n := 5) (g := fv) rfl rfl (by omega) (by decide) dX3_middle_101 ?_
            refine lv_goto (tgt := 106) hx hb dX3_middle_102 (by decide) ?_
            exact j_3t (by omega)
    · have hfo := hfv o (by omega) (by omega)
      refine lv_iload hx hb dX3_middle_24 (lv_at hl 3 rfl) ?_
      refine z_dia (P := fv o < fv k) (x := 1) (y := 0) (pcM := 48) (ls := ls) (rest := [.int (iI lx)]) ?_ (fun j_6t j_6f => ?_)
      · refine z_iadd hx hb dX3_middle_48 ?_
        refine lv_istore (lv' := [(4, .int (iI (lx + (if fv o < fv k then 1 else 0)))), (0, .ref (a 0)), (1, .long (lI fd)), (3, .int (iI k)), (5, .int (iI gx)), (6, .int (iI o))]) hx hb dX3_middle_49 hl (by decide) rfl (fun ls hl => ?_)
        refine lv_iload hx hb dX3_middle_51 (lv_at hl 4 rfl) ?_
        refine z_dia (P := fv k < fv o) (x := 1) (y := 0) (pcM := 75) (ls := ls) (rest := [.int (iI gx)]) ?_ (fun j_7t j_7f => ?_)
        · refine z_iadd hx hb dX3_middle_75 ?_
          refine lv_istore (lv' := [(5, .int (iI (gx + (if fv k < fv o then 1 else 0)))), (4, .int (iI (lx + (if fv o < fv k then 1 else 0)))), (0, .ref (a 0)), (1, .long (lI fd)), (3, .int (iI k)), (6, .int (iI o))]) hx hb dX3_middle_76 hl (by decide) rfl (fun ls hl => ?_)
          refine lv_iinc (v := iI (o + 1)) (lv' := [(6, .int (iI (o + 1))), (5, .int (iI (gx + (if fv k < fv o then 1 else 0)))), (4, .int (iI (lx + (if fv o < fv k then 1 else 0)))), (0, .ref (a 0)), (1, .long (lI fd)), (3, .int (iI k))]) hx hb dX3_middle_78 hl (k := 5) rfl (iI_add _ _) (by decide) rfl (fun ls hl => ?_)
          refine lv_goto (tgt := 18) hx hb dX3_middle_81 (by decide) ?_
          exact ih_18 ((o + 1), (lx + (if fv o < fv k then 1 else 0)), (gx + (if fv k < fv o then 1 else 0))) (by show (0 ≤ (o + 1) ∧ (o + 1) ≤ 5) ∧ ((lx + (if fv o < fv k then 1 else 0)) = mLs fv (fv k) (o + 1).toNat) ∧ ((gx + (if fv k < fv o then 1 else 0)) = mGr fv (fv k) (o + 1).toNat) ∧ (0 ≤ (lx + (if fv o < fv k then 1 else 0)) ∧ (lx + (if fv o < fv k then 1 else 0)) ≤ (o + 1)) ∧ (0 ≤ (gx + (if fv k < fv o then 1 else 0)) ∧ (gx + (if fv k < fv o then 1 else 0)) ≤ (o + 1)); exact ⟨by omega, by rw [mLs_s (by omega), g2], by rw [mGr_s (by omega), g3], by split <;> omega, by split <;> omega⟩) (by show (5 - (o + 1)).toNat < (5 - o).toNat; omega) ls (lv_sub hl [3, 4, 5, 2, 1, 0] rfl)
        · refine lv_aload_n hx hb dX3_middle_53 rfl (lv_at hl 1 rfl) ?_
          refine w_getf (ci := 0) (v := .ref (a 8)) (C := RX3) (T := TX3) (N := 9) hx hb hts in_X3 hown hK hW 0 (by decide) rfl rfl 8 (by decide) (hts _ q803) (fun _ h9 => h9) rfl dX3_middle_54 ?_
          refine lv_iload hx hb dX3_middle_57 (lv_at hl 5 rfl) ?_
          refine w_lald hx hb hK hW 8 1 (by decide) (n := 5) (g := fv) rfl rfl (by omega) (by decide) dX3_middle_59 ?_
          refine lv_aload_n hx hb dX3_middle_60 rfl (lv_at hl 1 rfl) ?_
          refine w_getf (ci := 0) (v := .ref (a 8)) (C := RX3) (T := TX3) (N := 9) hx hb hts in_X3 hown hK hW 0 (by decide) rfl rfl 8 (by decide) (hts _ q803) (fun _ h9 => h9) rfl dX3_middle_61 ?_
          refine lv_iload_n hx hb dX3_middle_64 rfl (lv_at hl 3 rfl) ?_
          refine w_lald hx hb hK hW 8 1 (by decide) (n := 5) (g := fv) rfl rfl (by omega) (by decide) dX3_middle_65 ?_
          refine z_lcmp hx hb dX3_middle_66 (by omega) (by omega) ?_
          have hz9 := zcmp_s (fv o) (fv k)
          refine z_if_le (tgt := 74) hx hb dX3_middle_67 (by decide) (by omega) (fun c_8 => ?_) (fun c_8 => ?_)
          · refine lv_iconst (v := iI 0) hx hb dX3_middle_74 (by rfl) ?_
            exact j_7f (by omega)
          · refine lv_iconst (v := iI 1) hx hb dX3_middle_70 (by rfl) ?_
            refine lv_goto (tgt := 75) hx hb dX3_middle_71 (by decide) ?_
            exact j_7t (by omega)
      · refine lv_aload_n hx hb dX3_middle_26 rfl (lv_at hl 0 rfl) ?_
        refine w_getf (ci := 0) (v := .ref (a 8)) (C := RX3) (T := TX3) (N := 9) hx hb hts in_X3 hown hK hW 0 (by decide) rfl rfl 8 (by decide) (hts _ q803) (fun _ h9 => h9) rfl dX3_middle_27 ?_
        refine lv_iload hx hb dX3_middle_30 (lv_at hl 5 rfl) ?_
        refine w_lald hx hb hK hW 8 1 (by decide) (n := 5) (g := fv) rfl rfl (by omega) (by decide) dX3_middle_32 ?_
        refine lv_aload_n hx hb dX3_middle_33 rfl (lv_at hl 0 rfl) ?_
        refine w_getf (ci := 0) (v := .ref (a 8)) (C := RX3) (T := TX3) (N := 9) hx hb hts in_X3 hown hK hW 0 (by decide) rfl rfl 8 (by decide) (hts _ q803) (fun _ h9 => h9) rfl dX3_middle_34 ?_
        refine lv_iload_n hx hb dX3_middle_37 rfl (lv_at hl 2 rfl) ?_
        refine w_lald hx hb hK hW 8 1 (by decide) (n := 5) (g := fv) rfl rfl (by omega) (by decide) dX3_middle_38 ?_
        refine z_lcmp hx hb dX3_middle_39 (by omega) (by omega) ?_
        have hz9 := zcmp_s (fv o) (fv k)
        refine z_if_ge (tgt := 47) hx hb dX3_middle_40 (by decide) (by omega) (fun c_9 => ?_) (fun c_9 => ?_)
        · refine lv_iconst (v := iI 0) hx hb dX3_middle_47 (by rfl) ?_
          exact j_6f (by omega)
        · refine lv_iconst (v := iI 1) hx hb dX3_middle_43 (by rfl) ?_
          refine lv_goto (tgt := 48) hx hb dX3_middle_44 (by decide) ?_
          exact j_6t (by omega)
set_option maxHeartbeats 4000000 in
set_option maxRecDepth 100000 in
theorem kX3_signedEstimate (l : Launch) (D : va_G) (a : Nat → Nat) (kc : Nat → ClassId) (th : Int) (cn tt ce co it we tk fv : Int → Int) (sz : Nat) (q : Int → Int) (st i : Int) (h_st : -2147483648 ≤ st ∧ st ≤ 2147483647) (h_i : -2147483648 ≤ i ∧ i ≤ 2147483647) (hcn : ∀ i9 : Int, 0 ≤ cn i9 ∧ cn i9 ≤ 1000000) (hq : q = if cdI st i = 0 then mSet (fun j9 => mSgn j9 i * mSC cn st j9 (mSCol j9 i) 64) fv 5 else fv) : Met l yX3_signedEstimate (ws_ yX3_signedEstimate cX3_signedEstimate 4 (some .int)) ({ frames := 15, cells := 0, slots := 0, locals := 280 }) (va_Pc [.ref (a 0), .int (iI st), .int (iI i)] (mW D a kc th cn tt ce co it we tk fv sz)) (va_Qi (fun (r : Int32) (_ : Unit) => r = iI (if cdI st i = 0 then mMid q 5 else 0)) (fun (_ : Unit) t8 => RW D clz mL a (mct a kc (cdI st i) cn tt ce co it we tk q) t8.heap) (RA mL a sz)) 0 0 (RA mL a sz) := by
  refine Met.ofW (cc := cX3_signedEstimate) (maxL := 4) (ret := (some .int)) (by decide) rfl ?_
  intro p e s m args below meth c s₁ B hml hv
  obtain ⟨rfl, hsz, hW, hK, hJ0⟩ := hv
  subst hsz
  have hJ := hJ0.self (sz := s.heap.size)
  have hS : va_S (RA mL a s.heap.size) s.heap s.heap [] := va_S.rf
  have hx := B.exec
  have hb := B.bytes
  have hr := B.returns
  have hlk := B.notSynchronized
  have hts := atoms_spec (ws := (ws_ yX3_signedEstimate cX3_signedEstimate 4 (some .int))) B.pre
  have hts : ∀ w ∈ lw_all, w.before _ s = true := fun w h => hts w (List.mem_cons_of_mem _ h)
  have hown : s.vm.findClass RX3 = some m.cls := findClass_of_methodNamed B.named
  have hl := lv_entry ([.ref (a 0), .int (iI st), .int (iI i)]) (n := 4) (Nat.le_of_ble_eq_true rfl)
  rw [lg_entry_eq]
  generalize (lg_sl ([.ref (a 0), .int (iI st), .int (iI i)]) ++ List.replicate (4 - (lg_sl ([.ref (a 0), .int (iI st), .int (iI i)])).length) Slot.unset).toArray = ls at hl ⊢
  have hl : lv_has ls 4 [(0, .ref (a 0)), (1, .int (iI st)), (2, .int (iI i))] := hl
  refine lv_aload_n hx hb dX3_signedEstimate_0 rfl (lv_at hl 0 rfl) ?_
  refine lv_iload_n hx hb dX3_signedEstimate_1 rfl (lv_at hl 1 rfl) ?_
  refine lv_iload_n hx hb dX3_signedEstimate_2 rfl (lv_at hl 2 rfl) ?_
  refine va_calli (va_runV (As := [.int (iI st), .int (iI i)]) (rest := []) ⟨hx, hb, hml, hown, hts⟩ (kX3_isItem l D a kc th cn tt ce co it we tk fv _ st i (by omega) (by omega)) (cwV 2 hts (lw_V q906 q908 qs21 q33 q909) rfl rfl rfl (by decide +kernel) ⟨Nat.le_of_ble_eq_true rfl, Nat.le_of_ble_eq_true rfl⟩) ⟨mW_blind, w_recv hK hW 0 (by decide) rfl rfl, mW_pre hW hK hJ.any⟩ rfl rfl hl.1 rfl (lv_room (Nat.le_of_ble_eq_true rfl)) dX3_signedEstimate_3 ⟨Nat.le_of_ble_eq_true rfl, Nat.le_of_ble_eq_true rfl⟩) hS (fun q _ h => RA.mono hS.1 q h) (RA.mono hS.1) (fun r9 u9 t9 H locs ht9 hvm9 hr9 hB9 hz9 hk9 hS => ?_)
  subst hr9
  have hW : RW D clz mL a (mct a kc (cdI st i) cn tt ce co it we tk fv) H := by rw [← ht9]; exact hB9
  refine z_if_ne (tgt := 11) hx hb dX3_signedEstimate_6 (by decide) (zb_r _) (fun c6 => ?_) (fun c6 => ?_)
  · have c6 := zb_1 c6
    have hq2 := cdI_0 c6
    rw [if_pos c6] at hq
    refine lv_iconst (v := iI 0) hx hb dX3_signedEstimate_11 (by rfl) ?_
    refine lv_istore_n (lv' := [(3, .int (iI 0)), (0, .ref (a 0)), (1, .int (iI st)), (2, .int (iI i))]) hx hb dX3_signedEstimate_12 rfl hl (by decide) rfl (fun ls hl => ?_)
    refine z_loopW (σ := Int × (Int → Int)) (fun x9 => [(0, .ref (a 0)), (1, .int (iI st)), (2, .int (iI i)), (3, .int (iI x9.1))]) (fun x9 => (0 ≤ x9.1 ∧ x9.1 ≤ 5) ∧ (x9.2 = mSet (fun j9 => mSgn j9 i * mSC cn st j9 (mSCol j9 i) 64) fv x9.1.toNat)) (fun x9 H9 => RW D clz mL a (mct a kc (cdI st i) cn tt ce co it we tk x9.2) H9) (fun x9 => (5 - x9.1).toNat) ?_ (0, fv) (by show (0 ≤ (0 : Int) ∧ (0 : Int) ≤ 5) ∧ (fv = mSet (fun j9 => mSgn j9 i * mSC cn st j9 (mSCol j9 i) 64) fv (0 : Int).toNat); exact ⟨by omega, rfl⟩) hW hS (lv_sub hl [1, 2, 3, 0] rfl)
    rintro ⟨r, fv1⟩ H locs hI9 hW hS ih_13 ls hl
    have hI9 : (0 ≤ r ∧ r ≤ 5) ∧ (fv1 = mSet (fun j9 => mSgn j9 i * mSC cn st j9 (mSCol j9 i) 64) fv r.toNat) := hI9
    obtain ⟨g1, g2⟩ := hI9
    have hl : lv_has ls 4 [(0, .ref (a 0)), (1, .int (iI st)), (2, .int (iI i)), (3, .int (iI r))] := hl
    have hW : RW D clz mL a (mct a kc (cdI st i) cn tt ce co it we tk fv1) H := hW
    refine lv_iload_n hx hb dX3_signedEstimate_13 rfl (lv_at hl 3 rfl) ?_
    refine lv_iconst (v := iI 5) hx hb dX3_signedEstimate_14 (by rfl) ?_
    refine z_icmp_ge (tgt := 49) hx hb dX3_signedEstimate_15 (by decide) (by omega) (by decide) (fun c_1 => ?_) (fun c_1 => ?_)
    · have hk : r = 5 := by omega
      rw [hk] at g2
      have g3 : fv1 = q := by rw [hq, g2]; rfl
      subst g3
      have hfv9 : ∀ j9 : Int, 0 ≤ j9 → j9 < 5 → -1000000000000000000 ≤ fv1 j9 ∧ fv1 j9 ≤ 1000000000000000000 := by intro j9 h1 h2; rw [hq, mSet_v 5 j9 h1 (by omega)]; have hs1 := mSgn_b j9 i; have hs3 := mSC_i hcn st j9 (mSCol j9 i); rcases hs1 with h9 | h9 <;> simp only [h9] <;> omega
      refine lv_aload_n hx hb dX3_signedEstimate_49 rfl (lv_at hl 0 rfl) ?_
      refine z_csl (W.runV (As := []) (rest := []) ⟨hx, hb, hml, hown, hts⟩ (kX3_middle l D a kc (cdI st i) cn tt ce co it we tk fv1 (hfv9)) (cwV 0 hts (lw_V q995 q997 qs26 q33 q998) rfl rfl rfl (by decide +kernel) ⟨Nat.le_of_ble_eq_true rfl, Nat.le_of_ble_eq_true rfl⟩) ⟨mR_blind, w_recv hK hW 0 (by decide) rfl rfl, mR_pre hW hK⟩ rfl rfl hl.1 rfl (lv_room (Nat.le_of_ble_eq_true rfl)) dX3_signedEstimate_50 ⟨Nat.le_of_ble_eq_true rfl, Nat.le_of_ble_eq_true rfl⟩) ?_
      refine z_l2i hx hb dX3_signedEstimate_53 ?_
      exact z_retW hx hb hr hlk hW hS (by first | rw [if_pos (by assumption)] | rw [if_neg (by assumption)]) dX3_signedEstimate_54
    · have hs1 := mSgn_b r i
      have hs2 := mSCol_b r i
      have hs3 := mSC_i hcn st r (mSCol r i)
      refine lv_aload_n hx hb dX3_signedEstimate_18 rfl (lv_at hl 0 rfl) ?_
      refine w_getf (ci := 0) (v := .ref (a 8)) (C := RX3) (T := TX3) (N := 9) hx hb hts in_X3 hown hK hW 0 (by decide) rfl rfl 8 (by decide) (hts _ q803) (fun _ h9 => h9) rfl dX3_signedEstimate_19 ?_
      refine lv_iload_n hx hb dX3_signedEstimate_22 rfl (lv_at hl 3 rfl) ?_
      refine lv_iload_n hx hb dX3_signedEstimate_23 rfl (lv_at hl 3 rfl) ?_
      refine lv_iload_n hx hb dX3_signedEstimate_24 rfl (lv_at hl 2 rfl) ?_
      refine z_cs (W.runS (As := [.int (iI r), .int (iI i)]) (rest := [.int (iI r), .ref (a 8)]) ⟨hx, hb, hml, hown, hts⟩ (kX3_signOf l r i (by omega) (by omega)) (va_cwS 2 hts (lw_S q980 q981 q33 q982) rfl rfl rfl (by decide +kernel) ⟨Nat.le_of_ble_eq_true rfl, Nat.le_of_ble_eq_true rfl⟩) ⟨fun _ _ _ _ q => q, fun _ _ _ => ⟨rfl, trivial⟩⟩ rfl rfl hl.1 rfl (lv_room (Nat.le_of_ble_eq_true rfl)) dX3_signedEstimate_25 ⟨Nat.le_of_ble_eq_true rfl, Nat.le_of_ble_eq_true rfl⟩) ?_
      refine z_i2l hx hb dX3_signedEstimate_28 (by omega) ?_
      refine lv_aload_n hx hb dX3_signedEstimate_29 rfl (lv_at hl 0 rfl) ?_
      refine lv_iload_n hx hb dX3_signedEstimate_30 rfl (lv_at hl 1 rfl) ?_
      refine lv_iload_n hx hb dX3_signedEstimate_31 rfl (lv_at hl 3 rfl) ?_
      refine lv_iload_n hx hb dX3_signedEstimate_32 rfl (lv_at hl 3 rfl) ?_
      refine lv_iload_n hx hb dX3_signedEstimate_33 rfl (lv_at hl 2 rfl) ?_
      refine z_cs (W.runS (As := [.int (iI r), .int (iI i)]) (rest := [.int (iI r), .int (iI st), .ref (a 0), .long (lI (mSgn r i)), .int (iI r), .ref (a 8)]) ⟨hx, hb, hml, hown, hts⟩ (kX3_signedColumnOf l r i (by omega) (by omega)) (va_cwS 2 hts (lw_S q973 q974 q33 q975) rfl rfl rfl (by decide +kernel) ⟨Nat.le_of_ble_eq_true rfl, Nat.le_of_ble_eq_true rfl⟩) ⟨fun _ _ _ _ q => q, fun _ _ _ => ⟨rfl, trivial⟩⟩ rfl rfl hl.1 rfl (lv_room (Nat.le_of_ble_eq_true rfl)) dX3_signedEstimate_34 ⟨Nat.le_of_ble_eq_true rfl, Nat.le_of_ble_eq_true rfl⟩) ?_
      refine z_cs (W.runV (As := [.int (iI st), .int (iI r), .int (iI (mSCol r i))]) (rest := [.long (lI (mSgn r i)), .int (iI r), .ref (a 8)]) ⟨hx, hb, hml, hown, hts⟩ (kX3_signedCellOf l D a kc (cdI st i) cn tt ce co it we tk fv1 st r (mSCol r i) (by omega) (by omega) (by omega)) (cwV 3 hts (lw_V q987 q989 qs25 q33 q990) rfl rfl rfl (by decide +kernel) ⟨Nat.le_of_ble_eq_true rfl, Nat.le_of_ble_eq_true rfl⟩) ⟨mR_blind, w_recv hK hW 0 (by decide) rfl rfl, mR_pre hW hK⟩ rfl rfl hl.1 rfl (lv_room (Nat.le_of_ble_eq_true rfl)) dX3_signedEstimate_37 ⟨Nat.le_of_ble_eq_true rfl, Nat.le_of_ble_eq_true rfl⟩) ?_
      refine z_i2l hx hb dX3_signedEstimate_40 (by omega) ?_
      refine z_lmul hx hb dX3_signedEstimate_41 ?_
      refine w_last hx hb hK hW hJ hS 8 1 (by decide) (n := 5) (g := fv1) rfl rfl (by omega) (by decide) (mct_8 _ _ _ _ _ _ _ _ _ _ _ _) dX3_signedEstimate_42 (fun H locs hW hS hz => ?_)
      have hW : RW D clz mL a (mct a kc (cdI st i) cn tt ce co it we tk (zu fv1 r ((mSgn r i) * (mSC cn st r (mSCol r i) 64)))) H := hW
      refine lv_iinc (v := iI (r + 1)) (lv' := [(3, .int (iI (r + 1))), (0, .ref (a 0)), (1, .int (iI st)), (2, .int (iI i))]) hx hb dX3_signedEstimate_43 hl (k := 3) rfl (iI_add _ _) (by decide) rfl (fun ls hl => ?_)
      refine lv_goto (tgt := 13) hx hb dX3_signedEstimate_46 (by decide) ?_
      exact ih_13 ((r + 1), (zu fv1 r ((mSgn r i) * (mSC cn st r (mSCol r i) 64)))) _ _ (by show (0 ≤ (r + 1) ∧ (r + 1) ≤ 5) ∧ ((zu fv1 r ((mSgn r i) * (mSC cn st r (mSCol r i) 64))) = mSet (fun j9 => mSgn j9 i * mSC cn st j9 (mSCol j9 i) 64) fv (r + 1).toNat); exact ⟨by omega, by rw [mSet_s (by omega), ← g2]⟩) hW hS (by show (5 - (r + 1)).toNat < (5 - r).toNat; omega) ls (lv_sub hl [1, 2, 3, 0] rfl)
  · have c6 := zb_0 c6
    rw [if_neg c6] at hq
    subst hq
    refine lv_iconst (v := iI 0) hx hb dX3_signedEstimate_9 (by rfl) ?_
    exact z_retW hx hb hr hlk hW hS (by first | rw [if_pos (by assumption)] | rw [if_neg (by assumption)]) dX3_signedEstimate_10
set_option maxHeartbeats 4000000 in
set_option maxRecDepth 100000 in
theorem kX3_signedProduct (l : Launch) (D : va_G) (a : Nat → Nat) (kc : Nat → ClassId) (th : Int) (cn tt ce co it we tk fv : Int → Int) (sz : Nat) (q : Int → Int) (st ot : Int) (h_st : -2147483648 ≤ st ∧ st ≤ 2147483647) (h_ot : -2147483648 ≤ ot ∧ ot ≤ 2147483647) (hcn : ∀ i9 : Int, 0 ≤ cn i9 ∧ cn i9 ≤ 1000000) (hq : q = if cd2 st ot = 0 then mSet (fun j9 => mSP cn st ot j9 8) fv 5 else fv) : Met l yX3_signedProduct (ws_ yX3_signedProduct cX3_signedProduct 5 (some .long)) ({ frames := 15, cells := 0, slots := 0, locals := 280 }) (va_Pc [.ref (a 0), .int (iI st), .int (iI ot)] (mW D a kc th cn tt ce co it we tk fv sz)) (va_Ql (fun (r : Int64) (_ : Unit) => r = lI (if cd2 st ot = 0 then mMid q 5 else 0)) (fun (_ : Unit) t8 => RW D clz mL a (mct a kc (cd2 st ot) cn tt ce co it we tk q) t8.heap) (RA mL a sz)) 0 0 (RA mL a sz) := by
  refine Met.ofW (cc := cX3_signedProduct) (maxL := 5) (ret := (some .long)) (by decide) rfl ?_
  intro p e s m args below meth c s₁ B hml hv
  obtain ⟨rfl, hsz, hW, hK, hJ0⟩ := hv
  subst hsz
  have hJ := hJ0.self (sz := s.heap.size)
  have hS : va_S (RA mL a s.heap.size) s.heap s.heap [] := va_S.rf
  have hx := B.exec
  have hb := B.bytes
  have hr := B.returns
  have hlk := B.notSynchronized
  have hts := atoms_spec (ws := (ws_ yX3_signedProduct cX3_signedProduct 5 (some .long))) B.pre
  have hts : ∀ w ∈ lw_all, w.before _ s = true := fun w h => hts w (List.mem_cons_of_mem _ h)
  have hown : s.vm.findClass RX3 = some m.cls := findClass_of_methodNamed B.named
  have hl := lv_entry ([.ref (a 0), .int (iI st), .int (iI ot)]) (n := 5) (Nat.le_of_ble_eq_true rfl)
  rw [lg_entry_eq]
  generalize (lg_sl ([.ref (a 0), .int (iI st), .int (iI ot)]) ++ List.replicate (5 - (lg_sl ([.ref (a 0), .int (iI st), .int (iI ot)])).length) Slot.unset).toArray = ls at hl ⊢
  have hl : lv_has ls 5 [(0, .ref (a 0)), (1, .int (iI st)), (2, .int (iI ot))] := hl
  refine lv_aload_n hx hb dX3_signedProduct_0 rfl (lv_at hl 0 rfl) ?_
  refine lv_iload_n hx hb dX3_signedProduct_1 rfl (lv_at hl 1 rfl) ?_
  refine z_cs (W.runS (As := [.int (iI st)]) (rest := [.ref (a 0)]) ⟨hx, hb, hml, hown, hts⟩ (kX3_isStream l st (by omega)) (va_cwS 1 hts (lw_S q831 q832 q33 q833) rfl rfl rfl (by decide +kernel) ⟨Nat.le_of_ble_eq_true rfl, Nat.le_of_ble_eq_true rfl⟩) ⟨fun _ _ _ _ q => q, fun _ _ _ => ⟨rfl, trivial⟩⟩ rfl rfl hl.1 rfl (lv_room (Nat.le_of_ble_eq_true rfl)) dX3_signedProduct_2 ⟨Nat.le_of_ble_eq_true rfl, Nat.le_of_ble_eq_true rfl⟩) ?_
  refine z_if_eq (tgt := 19) hx hb dX3_signedProduct_5 (by decide) (zb_r _) (fun c_1 => ?_) (fun c_1 => ?_)
  · have c_1 := zb_0 c_1
    refine lv_iconst (v := iI 1) hx hb dX3_signedProduct_19 (by rfl) ?_
    refine va_calli (va_runV (As := [.int (iI 1)]) (rest := []) ⟨hx, hb, hml, hown, hts⟩ (kX3_holds l D a kc th cn tt ce co it we tk fv _ 1 (by omega)) (cwV 1 hts (lw_V q838 q840 qs11 q33 q841) rfl rfl rfl (by decide +kernel) ⟨Nat.le_of_ble_eq_true rfl, Nat.le_of_ble_eq_true rfl⟩) ⟨mW_blind, w_recv hK hW 0 (by decide) rfl rfl, mW_pre hW hK hJ.any⟩ rfl rfl hl.1 rfl (lv_room (Nat.le_of_ble_eq_true rfl)) dX3_signedProduct_20 ⟨Nat.le_of_ble_eq_true rfl, Nat.le_of_ble_eq_true rfl⟩) hS (fun q _ h => RA.mono hS.1 q h) (RA.mono hS.1) (fun r9 u9 t9 H locs ht9 hvm9 hr9 hB9 hz9 hk9 hS => ?_)
    subst hr9
    have hW : RW D clz mL a (mct a kc 1 cn tt ce co it we tk fv) H := by rw [← ht9]; exact hB9
    refine z_as 0 (by decide) ?_
    refine z_if_ne (tgt := 28) hx hb dX3_signedProduct_23 (by decide) (by decide) (fun h9 => absurd h9 (by decide)) (fun _ => ?_)
    refine lv_lconst (v := lI 0) hx hb dX3_signedProduct_26 (by rfl) ?_
    have hz9 : cd2 st ot = 1 := by unfold cd2; (repeat' split) <;> omega
    rw [if_neg (by omega)] at hq
    subst hq
    rw [hz9]
    exact z_retWl hx hb hr hlk hW hS (by rw [if_neg (by decide)]) dX3_signedProduct_27
  · have c_1 := zb_1 c_1
    refine lv_iload_n hx hb dX3_signedProduct_8 rfl (lv_at hl 2 rfl) ?_
    refine z_cs (W.runS (As := [.int (iI ot)]) (rest := [.ref (a 0)]) ⟨hx, hb, hml, hown, hts⟩ (kX3_isStream l ot (by omega)) (va_cwS 1 hts (lw_S q831 q832 q33 q833) rfl rfl rfl (by decide +kernel) ⟨Nat.le_of_ble_eq_true rfl, Nat.le_of_ble_eq_true rfl⟩) ⟨fun _ _ _ _ q => q, fun _ _ _ => ⟨rfl, trivial⟩⟩ rfl rfl hl.1 rfl (lv_room (Nat.le_of_ble_eq_true rfl)) dX3_signedProduct_9 ⟨Nat.le_of_ble_eq_true rfl, Nat.le_of_ble_eq_true rfl⟩) ?_
    refine z_if_eq (tgt := 19) hx hb dX3_signedProduct_12 (by decide) (zb_r _) (fun c_3 => ?_) (fun c_3 => ?_)
    · have c_3 := zb_0 c_3
      refine lv_iconst (v := iI 1) hx hb dX3_signedProduct_19 (by rfl) ?_
      refine va_calli (va_runV (As := [.int (iI 1)]) (rest := []) ⟨hx, hb, hml, hown, hts⟩ (kX3_holds l D a kc th cn tt ce co it we tk fv _ 1 (by omega)) (cwV 1 hts (lw_V q838 q840 qs11 q33 q841) rfl rfl rfl (by decide +kernel) ⟨Nat.le_of_ble_eq_true rfl, Nat.le_of_ble_eq_true rfl⟩) ⟨mW_blind, w_recv hK hW 0 (by decide) rfl rfl, mW_pre hW hK hJ.any⟩ rfl rfl hl.1 rfl (lv_room (Nat.le_of_ble_eq_true rfl)) dX3_signedProduct_20 ⟨Nat.le_of_ble_eq_true rfl, Nat.le_of_ble_eq_true rfl⟩) hS (fun q _ h => RA.mono hS.1 q h) (RA.mono hS.1) (fun r9 u9 t9 H locs ht9 hvm9 hr9 hB9 hz9 hk9 hS => ?_)
      subst hr9
      have hW : RW D clz mL a (mct a kc 1 cn tt ce co it we tk fv) H := by rw [← ht9]; exact hB9
      refine z_as 0 (by decide) ?_
      refine z_if_ne (tgt := 28) hx hb dX3_signedProduct_23 (by decide) (by decide) (fun h9 => absurd h9 (by decide)) (fun _ => ?_)
      refine lv_lconst (v := lI 0) hx hb dX3_signedProduct_26 (by rfl) ?_
      have hz9 : cd2 st ot = 1 := by unfold cd2; (repeat' split) <;> omega
      rw [if_neg (by omega)] at hq
      subst hq
      rw [hz9]
      exact z_retWl hx hb hr hlk hW hS (by rw [if_neg (by decide)]) dX3_signedProduct_27
    · have c_3 := zb_1 c_3
      refine lv_iconst (v := iI 0) hx hb dX3_signedProduct_15 (by rfl) ?_
      refine lv_goto (tgt := 20) hx hb dX3_signedProduct_16 (by decide) ?_
      refine va_calli (va_runV (As := [.int (iI 0)]) (rest := []) ⟨hx, hb, hml, hown, hts⟩ (kX3_holds l D a kc th cn tt ce co it we tk fv _ 0 (by omega)) (cwV 1 hts (lw_V q838 q840 qs11 q33 q841) rfl rfl rfl (by decide +kernel) ⟨Nat.le_of_ble_eq_true rfl, Nat.le_of_ble_eq_true rfl⟩) ⟨mW_blind, w_recv hK hW 0 (by decide) rfl rfl, mW_pre hW hK hJ.any⟩ rfl rfl hl.1 rfl (lv_room (Nat.le_of_ble_eq_true rfl)) dX3_signedProduct_20 ⟨Nat.le_of_ble_eq_true rfl, Nat.le_of_ble_eq_true rfl⟩) hS (fun q _ h => RA.mono hS.1 q h) (RA.mono hS.1) (fun r9 u9 t9 H locs ht9 hvm9 hr9 hB9 hz9 hk9 hS => ?_)
      subst hr9
      have hW : RW D clz mL a (mct a kc 0 cn tt ce co it we tk fv) H := by rw [← ht9]; exact hB9
      refine z_as 1 (by decide) ?_
      refine z_if_ne (tgt := 28) hx hb dX3_signedProduct_23 (by decide) (by decide) (fun _ => ?_) (fun h9 => absurd h9 (by decide))
      refine lv_iconst (v := iI 0) hx hb dX3_signedProduct_28 (by rfl) ?_
      refine lv_istore_n (lv' := [(3, .int (iI 0)), (0, .ref (a 0)), (1, .int (iI st)), (2, .int (iI ot))]) hx hb dX3_signedProduct_29 rfl hl (by decide) rfl (fun ls hl => ?_)
      refine z_loopW (σ := Int × (Int → Int)) (fun x9 => [(0, .ref (a 0)), (1, .int (iI st)), (2, .int (iI ot)), (3, .int (iI x9.1))]) (fun x9 => (0 ≤ x9.1 ∧ x9.1 ≤ 5) ∧ (x9.2 = mSet (fun j9 => mSP cn st ot j9 8) fv x9.1.toNat)) (fun x9 H9 => RW D clz mL a (mct a kc 0 cn tt ce co it we tk x9.2) H9) (fun x9 => (5 - x9.1).toNat) ?_ (0, fv) (by show (0 ≤ (0 : Int) ∧ (0 : Int) ≤ 5) ∧ (fv = mSet (fun j9 => mSP cn st ot j9 8) fv (0 : Int).toNat); exact ⟨by omega, rfl⟩) hW hS (lv_sub hl [1, 2, 3, 0] rfl)
      rintro ⟨r, fv1⟩ H locs hI9 hW hS ih_30 ls hl
      have hI9 : (0 ≤ r ∧ r ≤ 5) ∧ (fv1 = mSet (fun j9 => mSP cn st ot j9 8) fv r.toNat) := hI9
      obtain ⟨g1, g2⟩ := hI9
      have hl : lv_has ls 5 [(0, .ref (a 0)), (1, .int (iI st)), (2, .int (iI ot)), (3, .int (iI r))] := hl
      have hW : RW D clz mL a (mct a kc 0 cn tt ce co it we tk fv1) H := hW
      refine lv_iload_n hx hb dX3_signedProduct_30 rfl (lv_at hl 3 rfl) ?_
      refine lv_iconst (v := iI 5) hx hb dX3_signedProduct_31 (by rfl) ?_
      refine z_icmp_ge (tgt := 92) hx hb dX3_signedProduct_32 (by decide) (by omega) (by decide) (fun c_6 => ?_) (fun c_6 => ?_)
      · have hk : r = 5 := by omega
        have hcd : cd2 st ot = 0 := by unfold cd2; rw [if_pos (by omega)]
        rw [if_pos hcd] at hq
        rw [hk] at g2
        have g3 : fv1 = q := by rw [hq, g2]; rfl
        subst g3
        have hfv9 : ∀ j9 : Int, 0 ≤ j9 → j9 < 5 → -1000000000000000000 ≤ fv1 j9 ∧ fv1 j9 ≤ 1000000000000000000 := by intro j9 h1 h2; rw [hq, mSet_v 5 j9 h1 (by omega)]; have hs3 := mSP_b hcn st ot j9 8; show -1000000000000000000 ≤ mSP cn st ot j9 8 ∧ mSP cn st ot j9 8 ≤ 1000000000000000000; omega
        refine lv_aload_n hx hb dX3_signedProduct_92 rfl (lv_at hl 0 rfl) ?_
        refine z_csl (W.runV (As := []) (rest := []) ⟨hx, hb, hml, hown, hts⟩ (kX3_middle l D a kc 0 cn tt ce co it we tk fv1 (hfv9)) (cwV 0 hts (lw_V q995 q997 qs26 q33 q998) rfl rfl rfl (by decide +kernel) ⟨Nat.le_of_ble_eq_true rfl, Nat.le_of_ble_eq_true rfl⟩) ⟨mR_blind, w_recv hK hW 0 (by decide) rfl rfl, mR_pre hW hK⟩ rfl rfl hl.1 rfl (lv_room (Nat.le_of_ble_eq_true rfl)) dX3_signedProduct_93 ⟨Nat.le_of_ble_eq_true rfl, Nat.le_of_ble_eq_true rfl⟩) ?_
        have hz9 : cd2 st ot = 0 := by unfold cd2; (repeat' split) <;> omega
        rw [hz9]
        exact z_retWl hx hb hr hlk hW hS (by rw [if_pos rfl]) dX3_signedProduct_96
      · refine lv_aload_n hx hb dX3_signedProduct_35 rfl (lv_at hl 0 rfl) ?_
        refine w_getf (ci := 0) (v := .ref (a 8)) (C := RX3) (T := TX3) (N := 9) hx hb hts in_X3 hown hK hW 0 (by decide) rfl rfl 8 (by decide) (hts _ q803) (fun _ h9 => h9) rfl dX3_signedProduct_36 ?_
        refine lv_iload_n hx hb dX3_signedProduct_39 rfl (lv_at hl 3 rfl) ?_
        refine lv_lconst (v := lI 0) hx hb dX3_signedProduct_40 (by rfl) ?_
        refine w_last hx hb hK hW hJ hS 8 1 (by decide) (n := 5) (g := fv1) rfl rfl (by omega) (by decide) (mct_8 _ _ _ _ _ _ _ _ _ _ _ _) dX3_signedProduct_41 (fun H locs hW hS hz => ?_)
        have hW : RW D clz mL a (mct a kc 0 cn tt ce co it we tk (zu fv1 r 0)) H := hW
        refine lv_iconst (v := iI 0) hx hb dX3_signedProduct_42 (by rfl) ?_
        refine lv_istore (lv' := [(4, .int (iI 0)), (0, .ref (a 0)), (1, .int (iI st)), (2, .int (iI ot)), (3, .int (iI r))]) hx hb dX3_signedProduct_43 hl (by decide) rfl (fun ls hl => ?_)
        refine z_loopW (σ := Int × (Int → Int)) (fun x9 => [(0, .ref (a 0)), (1, .int (iI st)), (2, .int (iI ot)), (3, .int (iI r)), (4, .int (iI x9.1))]) (fun x9 => (0 ≤ x9.1 ∧ x9.1 ≤ 8) ∧ (x9.2 = zu fv1 r (mSP cn st ot r x9.1.toNat))) (fun x9 H9 => RW D clz mL a (mct a kc 0 cn tt ce co it we tk x9.2) H9) (fun x9 => (8 - x9.1).toNat) ?_ (0, (zu fv1 r 0)) (by show (0 ≤ (0 : Int) ∧ (0 : Int) ≤ 8) ∧ ((zu fv1 r 0) = zu fv1 r (mSP cn st ot r (0 : Int).toNat)); exact ⟨by omega, rfl⟩) hW hS (lv_sub hl [1, 2, 3, 4, 0] rfl)
        rintro ⟨c9, fv2⟩ H locs hI9 hW hS ih_45 ls hl
        have hI9 : (0 ≤ c9 ∧ c9 ≤ 8) ∧ (fv2 = zu fv1 r (mSP cn st ot r c9.toNat)) := hI9
        obtain ⟨k1, k2⟩ := hI9
        have hl : lv_has ls 5 [(0, .ref (a 0)), (1, .int (iI st)), (2, .int (iI ot)), (3, .int (iI r)), (4, .int (iI c9))] := hl
        have hW : RW D clz mL a (mct a kc 0 cn tt ce co it we tk fv2) H := hW
        refine lv_iload hx hb dX3_signedProduct_45 (lv_at hl 4 rfl) ?_
        refine lv_bipush (v := iI 8) hx hb dX3_signedProduct_47 (by rfl) ?_
        refine z_icmp_ge (tgt := 86) hx hb dX3_signedProduct_49 (by decide) (by omega) (by decide) (fun c_7 => ?_) (fun c_7 => ?_)
        · refine lv_iinc (v := iI (r + 1)) (lv' := [(3, .int (iI (r + 1))), (0, .ref (a 0)), (1, .int (iI st)), (2, .int (iI ot)), (4, .int (iI c9))]) hx hb dX3_signedProduct_86 hl (k := 3) rfl (iI_add _ _) (by decide) rfl (fun ls hl => ?_)
          refine lv_goto (tgt := 30) hx hb dX3_signedProduct_89 (by decide) ?_
          exact ih_30 ((r + 1), fv2) _ _ (by show (0 ≤ (r + 1) ∧ (r + 1) ≤ 5) ∧ (fv2 = mSet (fun j9 => mSP cn st ot j9 8) fv (r + 1).toNat); exact ⟨by omega, by rw [mSet_s (by omega), ← g2, k2, show c9 = 8 by omega]; rfl⟩) hW hS (by show (5 - (r + 1)).toNat < (5 - r).toNat; omega) ls (lv_sub hl [1, 2, 3, 0] rfl)
        · have hs3 := mSC_i hcn st r c9
          have hs4 := mSC_i hcn ot r c9
          refine lv_aload_n hx hb dX3_signedProduct_52 rfl (lv_at hl 0 rfl) ?_
          refine w_getf (ci := 0) (v := .ref (a 8)) (C := RX3) (T := TX3) (N := 9) hx hb hts in_X3 hown hK hW 0 (by decide) rfl rfl 8 (by decide) (hts _ q803) (fun _ h9 => h9) rfl dX3_signedProduct_53 ?_
          refine lv_iload_n hx hb dX3_signedProduct_56 rfl (lv_at hl 3 rfl) ?_
          refine lv_dup2_11 hx hb dX3_signedProduct_57 rfl rfl ?_
          refine w_lald hx hb hK hW 8 1 (by decide) (n := 5) (g := fv2) rfl rfl (by omega) (by decide) dX3_signedProduct_58 ?_
          refine lv_aload_n hx hb dX3_signedProduct_59 rfl (lv_at hl 0 rfl) ?_
          refine lv_iload_n hx hb dX3_signedProduct_60 rfl (lv_at hl 1 rfl) ?_
          refine lv_iload_n hx hb dX3_signedProduct_61 rfl (lv_at hl 3 rfl) ?_
          refine lv_iload hx hb dX3_signedProduct_62 (lv_at hl 4 rfl) ?_
          refine z_cs (W.runV (As := [.int (iI st), .int (iI r), .int (iI c9)]) (rest := [.long (lI (fv2 r)), .int (iI r), .ref (a 8)]) ⟨hx, hb, hml, hown, hts⟩ (kX3_signedCellOf l D a kc 0 cn tt ce co it we tk fv2 st r c9 (by omega) (by omega) (by omega)) (cwV 3 hts (lw_V q987 q989 qs25 q33 q990) rfl rfl rfl (by decide +kernel) ⟨Nat.le_of_ble_eq_true rfl, Nat.le_of_ble_eq_true rfl⟩) ⟨mR_blind, w_recv hK hW 0 (by decide) rfl rfl, mR_pre hW hK⟩ rfl rfl hl.1 rfl (lv_room (Nat.le_of_ble_eq_true rfl)) dX3_signedProduct_64 ⟨Nat.le_of_ble_eq_true rfl, Nat.le_of_ble_eq_true rfl⟩) ?_
          refine z_i2l hx hb dX3_signedProduct_67 (by omega) ?_
          refine lv_aload_n hx hb dX3_signedProduct_68 rfl (lv_at hl 0 rfl) ?_
          refine lv_iload_n hx hb dX3_signedProduct_69 rfl (lv_at hl 2 rfl) ?_
          refine lv_iload_n hx hb dX3_signedProduct_70 rfl (lv_at hl 3 rfl) ?_
          refine lv_iload hx hb dX3_signedProduct_71 (lv_at hl 4 rfl) ?_
          refine z_cs (W.runV (As := [.int (iI ot), .int (iI r), .int (iI c9)]) (rest := [.long (lI (mSC cn st r c9 64)), .long (lI (fv2 r)), .int (iI r), .ref (a 8)]) ⟨hx, hb, hml, hown, hts⟩ (kX3_signedCellOf l D a kc 0 cn tt ce co it we tk fv2 ot r c9 (by omega) (by omega) (by omega)) (cwV 3 hts (lw_V q987 q989 qs25 q33 q990) rfl rfl rfl (by decide +kernel) ⟨Nat.le_of_ble_eq_true rfl, Nat.le_of_ble_eq_true rfl⟩) ⟨mR_blind, w_recv hK hW 0 (by decide) rfl rfl, mR_pre hW hK⟩ rfl rfl hl.1 rfl (lv_room (Nat.le_of_ble_eq_true rfl)) dX3_signedProduct_73 ⟨Nat.le_of_ble_eq_true rfl, Nat.le_of_ble_eq_true rfl⟩) ?_
          refine z_i2l hx hb dX3_signedProduct_76 (by omega) ?_
          refine z_lmul hx hb dX3_signedProduct_77 ?_
          refine z_ladd hx hb dX3_signedProduct_78 ?_
          refine w_last hx hb hK hW hJ hS 8 1 (by decide) (n := 5) (g := fv2) rfl rfl (by omega) (by decide) (mct_8 _ _ _ _ _ _ _ _ _ _ _ _) dX3_signedProduct_79 (fun H locs hW hS hz => ?_)
          have hW : RW D clz mL a (mct a kc 0 cn tt ce co it we tk (zu fv2 r ((fv2 r) + ((mSC cn st r c9 64) * (mSC cn ot r c9 64))))) H := hW
          refine lv_iinc (v := iI (c9 + 1)) (lv' := [(4, .int (iI (c9 + 1))), (0, .ref (a 0)), (1, .int (iI st)), (2, .int (iI ot)), (3, .int (iI r))]) hx hb dX3_signedProduct_80 hl (k := 4) rfl (iI_add _ _) (by decide) rfl (fun ls hl => ?_)
          refine lv_goto (tgt := 45) hx hb dX3_signedProduct_83 (by decide) ?_
          exact ih_45 ((c9 + 1), (zu fv2 r ((fv2 r) + ((mSC cn st r c9 64) * (mSC cn ot r c9 64))))) _ _ (by show (0 ≤ (c9 + 1) ∧ (c9 + 1) ≤ 8) ∧ ((zu fv2 r ((fv2 r) + ((mSC cn st r c9 64) * (mSC cn ot r c9 64)))) = zu fv1 r (mSP cn st ot r (c9 + 1).toNat)); exact ⟨by omega, by rw [mSP_s (by omega), k2, zu_zu, zu_s]⟩) hW hS (by show (8 - (c9 + 1)).toNat < (8 - c9).toNat; omega) ls (lv_sub hl [1, 2, 3, 4, 0] rfl)
set_option maxHeartbeats 4000000 in
set_option maxRecDepth 100000 in
theorem kX3_counterItem (l : Launch) (D : va_G) (a : Nat → Nat) (kc : Nat → ClassId) (th : Int) (cn tt ce co it we tk fv : Int → Int) (sz : Nat) (st pl : Int) (h_st : -2147483648 ≤ st ∧ st ≤ 2147483647) (h_pl : -2147483648 ≤ pl ∧ pl ≤ 2147483647) (hco : ∀ i9 : Int, 0 ≤ co i9 ∧ co i9 ≤ 8) : Met l yX3_counterItem (ws_ yX3_counterItem cX3_counterItem 4 (some .int)) ({ frames := 15, cells := 0, slots := 0, locals := 280 }) (va_Pc [.ref (a 0), .int (iI st), .int (iI pl)] (mW D a kc th cn tt ce co it we tk fv sz)) (va_Qi (fun (r : Int32) (_ : Unit) => r = iI (if cdCI st pl (co st) = 0 then it (8 * st + pl) else 0)) (fun (_ : Unit) t8 => RW D clz mL a (mct a kc (cdCI st pl (co st)) cn tt ce co it we tk fv) t8.heap) (RA mL a sz)) 0 0 (RA mL a sz) := by
  refine Met.ofW (cc := cX3_counterItem) (maxL := 4) (ret := (some .int)) (by decide) rfl ?_
  intro p e s m args below meth c s₁ B hml hv
  obtain ⟨rfl, hsz, hW, hK, hJ0⟩ := hv
  subst hsz
  have hJ := hJ0.self (sz := s.heap.size)
  have hS : va_S (RA mL a s.heap.size) s.heap s.heap [] := va_S.rf
  have hx := B.exec
  have hb := B.bytes
  have hr := B.returns
  have hlk := B.notSynchronized
  have hts := atoms_spec (ws := (ws_ yX3_counterItem cX3_counterItem 4 (some .int))) B.pre
  have hts : ∀ w ∈ lw_all, w.before _ s = true := fun w h => hts w (List.mem_cons_of_mem _ h)
  have hown : s.vm.findClass RX3 = some m.cls := findClass_of_methodNamed B.named
  have hl := lv_entry ([.ref (a 0), .int (iI st), .int (iI pl)]) (n := 4) (Nat.le_of_ble_eq_true rfl)
  rw [lg_entry_eq]
  generalize (lg_sl ([.ref (a 0), .int (iI st), .int (iI pl)]) ++ List.replicate (4 - (lg_sl ([.ref (a 0), .int (iI st), .int (iI pl)])).length) Slot.unset).toArray = ls at hl ⊢
  have hl : lv_has ls 4 [(0, .ref (a 0)), (1, .int (iI st)), (2, .int (iI pl))] := hl
  refine lv_iload_n hx hb dX3_counterItem_0 rfl (lv_at hl 1 rfl) ?_
  refine z_cs (W.runS (As := [.int (iI st)]) (rest := []) ⟨hx, hb, hml, hown, hts⟩ (kX3_isStream l st (by omega)) (va_cwS 1 hts (lw_S q831 q832 q33 q833) rfl rfl rfl (by decide +kernel) ⟨Nat.le_of_ble_eq_true rfl, Nat.le_of_ble_eq_true rfl⟩) ⟨fun _ _ _ _ q => q, fun _ _ _ => ⟨rfl, trivial⟩⟩ rfl rfl hl.1 rfl (lv_room (Nat.le_of_ble_eq_true rfl)) dX3_counterItem_1 ⟨Nat.le_of_ble_eq_true rfl, Nat.le_of_ble_eq_true rfl⟩) ?_
  refine z_if_eq (tgt := 25) hx hb dX3_counterItem_4 (by decide) (zb_r _) (fun c_1 => ?_) (fun c_1 => ?_)
  · have c_1 := zb_0 c_1
    refine lv_iconst (v := iI 0) hx hb dX3_counterItem_25 (by rfl) ?_
    refine lv_istore_n (lv' := [(3, .int (iI 0)), (0, .ref (a 0)), (1, .int (iI st)), (2, .int (iI pl))]) hx hb dX3_counterItem_26 rfl hl (by decide) rfl (fun ls hl => ?_)
    refine lv_aload_n hx hb dX3_counterItem_27 rfl (lv_at hl 1 rfl) ?_
    refine lv_iload_n hx hb dX3_counterItem_28 rfl (lv_at hl 0 rfl) ?_
    refine z_if_eq (tgt := 36) hx hb dX3_counterItem_29 (by decide) (by decide) (fun _ => ?_) (fun h9 => absurd h9 (by decide))
    refine lv_iconst (v := iI 1) hx hb dX3_counterItem_36 (by rfl) ?_
    refine va_calli (va_runV (As := [.int (iI 1)]) (rest := []) ⟨hx, hb, hml, hown, hts⟩ (kX3_holds l D a kc th cn tt ce co it we tk fv _ 1 (by omega)) (cwV 1 hts (lw_V q838 q840 qs11 q33 q841) rfl rfl rfl (by decide +kernel) ⟨Nat.le_of_ble_eq_true rfl, Nat.le_of_ble_eq_true rfl⟩) ⟨mW_blind, w_recv hK hW 0 (by decide) rfl rfl, mW_pre hW hK hJ.any⟩ rfl rfl hl.1 rfl (lv_room (Nat.le_of_ble_eq_true rfl)) dX3_counterItem_37 ⟨Nat.le_of_ble_eq_true rfl, Nat.le_of_ble_eq_true rfl⟩) hS (fun q _ h => RA.mono hS.1 q h) (RA.mono hS.1) (fun r9 u9 t9 H locs ht9 hvm9 hr9 hB9 hz9 hk9 hS => ?_)
    subst hr9
    have hW : RW D clz mL a (mct a kc 1 cn tt ce co it we tk fv) H := by rw [← ht9]; exact hB9
    refine z_as 0 (by decide) ?_
    refine z_if_eq (tgt := 57) hx hb dX3_counterItem_40 (by decide) (by decide) (fun _ => ?_) (fun h9 => absurd h9 (by decide))
    refine lv_iconst (v := iI 0) hx hb dX3_counterItem_57 (by rfl) ?_
    have hz9 : cdCI st pl (co st) = 1 := by unfold cdCI; (repeat' split) <;> omega
    rw [hz9]
    exact z_retW hx hb hr hlk hW hS (by rw [if_neg (by decide)]) dX3_counterItem_58
  · have c_1 := zb_1 c_1
    refine lv_iload_n hx hb dX3_counterItem_7 rfl (lv_at hl 2 rfl) ?_
    refine z_if_lt (tgt := 25) hx hb dX3_counterItem_8 (by decide) (by omega) (fun c_4 => ?_) (fun c_4 => ?_)
    · refine lv_iconst (v := iI 0) hx hb dX3_counterItem_25 (by rfl) ?_
      refine lv_istore_n (lv' := [(3, .int (iI 0)), (0, .ref (a 0)), (1, .int (iI st)), (2, .int (iI pl))]) hx hb dX3_counterItem_26 rfl hl (by decide) rfl (fun ls hl => ?_)
      refine lv_aload_n hx hb dX3_counterItem_27 rfl (lv_at hl 1 rfl) ?_
      refine lv_iload_n hx hb dX3_counterItem_28 rfl (lv_at hl 0 rfl) ?_
      refine z_if_eq (tgt := 36) hx hb dX3_counterItem_29 (by decide) (by decide) (fun _ => ?_) (fun h9 => absurd h9 (by decide))
      refine lv_iconst (v := iI 1) hx hb dX3_counterItem_36 (by rfl) ?_
      refine va_calli (va_runV (As := [.int (iI 1)]) (rest := []) ⟨hx, hb, hml, hown, hts⟩ (kX3_holds l D a kc th cn tt ce co it we tk fv _ 1 (by omega)) (cwV 1 hts (lw_V q838 q840 qs11 q33 q841) rfl rfl rfl (by decide +kernel) ⟨Nat.le_of_ble_eq_true rfl, Nat.le_of_ble_eq_true rfl⟩) ⟨mW_blind, w_recv hK hW 0 (by decide) rfl rfl, mW_pre hW hK hJ.any⟩ rfl rfl hl.1 rfl (lv_room (Nat.le_of_ble_eq_true rfl)) dX3_counterItem_37 ⟨Nat.le_of_ble_eq_true rfl, Nat.le_of_ble_eq_true rfl⟩) hS (fun q _ h => RA.mono hS.1 q h) (RA.mono hS.1) (fun r9 u9 t9 H locs ht9 hvm9 hr9 hB9 hz9 hk9 hS => ?_)
      subst hr9
      have hW : RW D clz mL a (mct a kc 1 cn tt ce co it we tk fv) H := by rw [← ht9]; exact hB9
      refine z_as 0 (by decide) ?_
      refine z_if_eq (tgt := 57) hx hb dX3_counterItem_40 (by decide) (by decide) (fun _ => ?_) (fun h9 => absurd h9 (by decide))
      refine lv_iconst (v := iI 0) hx hb dX3_counterItem_57 (by rfl) ?_
      have hz9 : cdCI st pl (co st) = 1 := by unfold cdCI; (repeat' split) <;> omega
      rw [hz9]
      exact z_retW hx hb hr hlk hW hS (by rw [if_neg (by decide)]) dX3_counterItem_58
    · have hcs := hco st
      refine lv_iload_n hx hb dX3_counterItem_11 rfl (lv_at hl 2 rfl) ?_
      refine lv_aload_n hx hb dX3_counterItem_12 rfl (lv_at hl 0 rfl) ?_
      refine w_getf (ci := 0) (v := .ref (a 4)) (C := RX3) (T := TX3) (N := 9) hx hb hts in_X3 hown hK hW 0 (by decide) rfl rfl 4 (by decide) (hts _ q799) (fun _ h9 => h9) rfl dX3_counterItem_13 ?_
      refine lv_iload_n hx hb dX3_counterItem_16 rfl (lv_at hl 1 rfl) ?_
      refine w_iald hx hb hK hW 4 0 (by decide) (n := 4) (g := co) rfl rfl (by omega) (by decide) dX3_counterItem_17 ?_
      refine z_icmp_ge (tgt := 25) hx hb dX3_counterItem_18 (by decide) (by omega) (by omega) (fun c_7 => ?_) (fun c_7 => ?_)
      · refine lv_iconst (v := iI 0) hx hb dX3_counterItem_25 (by rfl) ?_
        refine lv_istore_n (lv' := [(3, .int (iI 0)), (0, .ref (a 0)), (1, .int (iI st)), (2, .int (iI pl))]) hx hb dX3_counterItem_26 rfl hl (by decide) rfl (fun ls hl => ?_)
        refine lv_aload_n hx hb dX3_counterItem_27 rfl (lv_at hl 1 rfl) ?_
        refine lv_iload_n hx hb dX3_counterItem_28 rfl (lv_at hl 0 rfl) ?_
        refine z_if_eq (tgt := 36) hx hb dX3_counterItem_29 (by decide) (by decide) (fun _ => ?_) (fun h9 => absurd h9 (by decide))
        refine lv_iconst (v := iI 1) hx hb dX3_counterItem_36 (by rfl) ?_
        refine va_calli (va_runV (As := [.int (iI 1)]) (rest := []) ⟨hx, hb, hml, hown, hts⟩ (kX3_holds l D a kc th cn tt ce co it we tk fv _ 1 (by omega)) (cwV 1 hts (lw_V q838 q840 qs11 q33 q841) rfl rfl rfl (by decide +kernel) ⟨Nat.le_of_ble_eq_true rfl, Nat.le_of_ble_eq_true rfl⟩) ⟨mW_blind, w_recv hK hW 0 (by decide) rfl rfl, mW_pre hW hK hJ.any⟩ rfl rfl hl.1 rfl (lv_room (Nat.le_of_ble_eq_true rfl)) dX3_counterItem_37 ⟨Nat.le_of_ble_eq_true rfl, Nat.le_of_ble_eq_true rfl⟩) hS (fun q _ h => RA.mono hS.1 q h) (RA.mono hS.1) (fun r9 u9 t9 H locs ht9 hvm9 hr9 hB9 hz9 hk9 hS => ?_)
        subst hr9
        have hW : RW D clz mL a (mct a kc 1 cn tt ce co it we tk fv) H := by rw [← ht9]; exact hB9
        refine z_as 0 (by decide) ?_
        refine z_if_eq (tgt := 57) hx hb dX3_counterItem_40 (by decide) (by decide) (fun _ => ?_) (fun h9 => absurd h9 (by decide))
        refine lv_iconst (v := iI 0) hx hb dX3_counterItem_57 (by rfl) ?_
        have hz9 : cdCI st pl (co st) = 1 := by unfold cdCI; (repeat' split) <;> omega
        rw [hz9]
        exact z_retW hx hb hr hlk hW hS (by rw [if_neg (by decide)]) dX3_counterItem_58
      · refine lv_iconst (v := iI 1) hx hb dX3_counterItem_21 (by rfl) ?_
        refine lv_goto (tgt := 26) hx hb dX3_counterItem_22 (by decide) ?_
        refine lv_istore_n (lv' := [(3, .int (iI 1)), (0, .ref (a 0)), (1, .int (iI st)), (2, .int (iI pl))]) hx hb dX3_counterItem_26 rfl hl (by decide) rfl (fun ls hl => ?_)
        refine lv_aload_n hx hb dX3_counterItem_27 rfl (lv_at hl 1 rfl) ?_
        refine lv_iload_n hx hb dX3_counterItem_28 rfl (lv_at hl 0 rfl) ?_
        refine z_if_eq (tgt := 36) hx hb dX3_counterItem_29 (by decide) (by decide) (fun h9 => absurd h9 (by decide)) (fun _ => ?_)
        refine lv_iconst (v := iI 0) hx hb dX3_counterItem_32 (by rfl) ?_
        refine lv_goto (tgt := 37) hx hb dX3_counterItem_33 (by decide) ?_
        refine va_calli (va_runV (As := [.int (iI 0)]) (rest := []) ⟨hx, hb, hml, hown, hts⟩ (kX3_holds l D a kc th cn tt ce co it we tk fv _ 0 (by omega)) (cwV 1 hts (lw_V q838 q840 qs11 q33 q841) rfl rfl rfl (by decide +kernel) ⟨Nat.le_of_ble_eq_true rfl, Nat.le_of_ble_eq_true rfl⟩) ⟨mW_blind, w_recv hK hW 0 (by decide) rfl rfl, mW_pre hW hK hJ.any⟩ rfl rfl hl.1 rfl (lv_room (Nat.le_of_ble_eq_true rfl)) dX3_counterItem_37 ⟨Nat.le_of_ble_eq_true rfl, Nat.le_of_ble_eq_true rfl⟩) hS (fun q _ h => RA.mono hS.1 q h) (RA.mono hS.1) (fun r9 u9 t9 H locs ht9 hvm9 hr9 hB9 hz9 hk9 hS => ?_)
        subst hr9
        have hW : RW D clz mL a (mct a kc 0 cn tt ce co it we tk fv) H := by rw [← ht9]; exact hB9
        refine z_as 1 (by decide) ?_
        refine z_if_eq (tgt := 57) hx hb dX3_counterItem_40 (by decide) (by decide) (fun h9 => absurd h9 (by decide)) (fun _ => ?_)
        refine lv_aload_n hx hb dX3_counterItem_43 rfl (lv_at hl 1 rfl) ?_
        refine w_getf (ci := 0) (v := .ref (a 5)) (C := RX3) (T := TX3) (N := 9) hx hb hts in_X3 hown hK hW 0 (by decide) rfl rfl 5 (by decide) (hts _ q800) (fun _ h9 => h9) rfl dX3_counterItem_44 ?_
        refine lv_bipush (v := iI 8) hx hb dX3_counterItem_47 (by rfl) ?_
        refine lv_iload_n hx hb dX3_counterItem_49 rfl (lv_at hl 2 rfl) ?_
        refine z_imul hx hb dX3_counterItem_50 ?_
        refine lv_iload_n hx hb dX3_counterItem_51 rfl (lv_at hl 3 rfl) ?_
        refine z_iadd hx hb dX3_counterItem_52 ?_
        refine w_iald hx hb hK hW 5 0 (by decide) (n := 32) (g := it) rfl rfl (by omega) (by decide) dX3_counterItem_53 ?_
        refine lv_goto (tgt := 58) hx hb dX3_counterItem_54 (by decide) ?_
        have hz9 : cdCI st pl (co st) = 0 := by unfold cdCI; (repeat' split) <;> omega
        rw [hz9]
        exact z_retW hx hb hr hlk hW hS (by rw [if_pos rfl]) dX3_counterItem_58
set_option maxHeartbeats 4000000 in
set_option maxRecDepth 100000 in
theorem kX3_counterOf (l : Launch) (D : va_G) (a : Nat → Nat) (kc : Nat → ClassId) (th : Int) (cn tt ce co it we tk fv : Int → Int) (sz : Nat) (st i : Int) (h_st : -2147483648 ≤ st ∧ st ≤ 2147483647) (h_i : -2147483648 ≤ i ∧ i ≤ 2147483647) (hco : ∀ i9 : Int, 0 ≤ co i9 ∧ co i9 ≤ 8) (hit : ∀ i9 : Int, 0 ≤ it i9 ∧ it i9 ≤ 63) : Met l yX3_counterOf (ws_ yX3_counterOf cX3_counterOf 4 (some .int)) ({ frames := 15, cells := 0, slots := 0, locals := 280 }) (va_Pc [.ref (a 0), .int (iI st), .int (iI i)] (mW D a kc th cn tt ce co it we tk fv sz)) (va_Qi (fun (r : Int32) (_ : Unit) => r = iI (if cdI st i = 0 then (if mFind it st i (co st).toNat = -1 then 0 else we (8 * st + mFind it st i (co st).toNat)) else 0)) (fun (_ : Unit) t8 => RW D clz mL a (mct a kc (cdI st i) cn tt ce co it we tk fv) t8.heap) (RA mL a sz)) 0 0 (RA mL a sz) := by
  refine Met.ofW (cc := cX3_counterOf) (maxL := 4) (ret := (some .int)) (by decide) rfl ?_
  intro p e s m args below meth c s₁ B hml hv
  obtain ⟨rfl, hsz, hW, hK, hJ0⟩ := hv
  subst hsz
  have hJ := hJ0.self (sz := s.heap.size)
  have hS : va_S (RA mL a s.heap.size) s.heap s.heap [] := va_S.rf
  have hx := B.exec
  have hb := B.bytes
  have hr := B.returns
  have hlk := B.notSynchronized
  have hts := atoms_spec (ws := (ws_ yX3_counterOf cX3_counterOf 4 (some .int))) B.pre
  have hts : ∀ w ∈ lw_all, w.before _ s = true := fun w h => hts w (List.mem_cons_of_mem _ h)
  have hown : s.vm.findClass RX3 = some m.cls := findClass_of_methodNamed B.named
  have hl := lv_entry ([.ref (a 0), .int (iI st), .int (iI i)]) (n := 4) (Nat.le_of_ble_eq_true rfl)
  rw [lg_entry_eq]
  generalize (lg_sl ([.ref (a 0), .int (iI st), .int (iI i)]) ++ List.replicate (4 - (lg_sl ([.ref (a 0), .int (iI st), .int (iI i)])).length) Slot.unset).toArray = ls at hl ⊢
  have hl : lv_has ls 4 [(0, .ref (a 0)), (1, .int (iI st)), (2, .int (iI i))] := hl
  refine lv_aload_n hx hb dX3_counterOf_0 rfl (lv_at hl 0 rfl) ?_
  refine lv_iload_n hx hb dX3_counterOf_1 rfl (lv_at hl 1 rfl) ?_
  refine lv_iload_n hx hb dX3_counterOf_2 rfl (lv_at hl 2 rfl) ?_
  refine va_calli (va_runV (As := [.int (iI st), .int (iI i)]) (rest := []) ⟨hx, hb, hml, hown, hts⟩ (kX3_isItem l D a kc th cn tt ce co it we tk fv _ st i (by omega) (by omega)) (cwV 2 hts (lw_V q906 q908 qs21 q33 q909) rfl rfl rfl (by decide +kernel) ⟨Nat.le_of_ble_eq_true rfl, Nat.le_of_ble_eq_true rfl⟩) ⟨mW_blind, w_recv hK hW 0 (by decide) rfl rfl, mW_pre hW hK hJ.any⟩ rfl rfl hl.1 rfl (lv_room (Nat.le_of_ble_eq_true rfl)) dX3_counterOf_3 ⟨Nat.le_of_ble_eq_true rfl, Nat.le_of_ble_eq_true rfl⟩) hS (fun q _ h => RA.mono hS.1 q h) (RA.mono hS.1) (fun r9 u9 t9 H locs ht9 hvm9 hr9 hB9 hz9 hk9 hS => ?_)
  subst hr9
  have hW : RW D clz mL a (mct a kc (cdI st i) cn tt ce co it we tk fv) H := by rw [← ht9]; exact hB9
  refine z_if_ne (tgt := 11) hx hb dX3_counterOf_6 (by decide) (zb_r _) (fun c6 => ?_) (fun c6 => ?_)
  · have c6 := zb_1 c6
    have hq := cdI_0 c6
    have hcs := hco st
    refine lv_aload_n hx hb dX3_counterOf_11 rfl (lv_at hl 0 rfl) ?_
    refine lv_iload_n hx hb dX3_counterOf_12 rfl (lv_at hl 1 rfl) ?_
    refine lv_iload_n hx hb dX3_counterOf_13 rfl (lv_at hl 2 rfl) ?_
    refine z_cs (W.runV (As := [.int (iI st), .int (iI i)]) (rest := []) ⟨hx, hb, hml, hown, hts⟩ (kX3_placeOfCounter l D a kc (cdI st i) cn tt ce co it we tk fv st i (by omega) (by omega) (by omega) (by omega)) (cwV 2 hts (lw_V q870 q872 qs16 q33 q873) rfl rfl rfl (by decide +kernel) ⟨Nat.le_of_ble_eq_true rfl, Nat.le_of_ble_eq_true rfl⟩) ⟨mR_blind, w_recv hK hW 0 (by decide) rfl rfl, mR_pre hW hK⟩ rfl rfl hl.1 rfl (lv_room (Nat.le_of_ble_eq_true rfl)) dX3_counterOf_14 ⟨Nat.le_of_ble_eq_true rfl, Nat.le_of_ble_eq_true rfl⟩) ?_
    refine z_top (fun p9 e_p9 => ?_)
    have hp := mFind_r it st i (co st).toNat
    rw [← e_p9] at hp
    refine lv_istore_n (lv' := [(3, .int (iI p9)), (0, .ref (a 0)), (1, .int (iI st)), (2, .int (iI i))]) hx hb dX3_counterOf_17 rfl hl (by decide) rfl (fun ls hl => ?_)
    refine lv_iload_n hx hb dX3_counterOf_18 rfl (lv_at hl 0 rfl) ?_
    refine lv_iconst (v := iI (-1)) hx hb dX3_counterOf_19 (by rfl) ?_
    refine z_icmp_ne (tgt := 27) hx hb dX3_counterOf_20 (by decide) (by omega) (by decide) (fun c20 => ?_) (fun c20 => ?_)
    · refine lv_aload_n hx hb dX3_counterOf_27 rfl (lv_at hl 1 rfl) ?_
      refine w_getf (ci := 0) (v := .ref (a 6)) (C := RX3) (T := TX3) (N := 9) hx hb hts in_X3 hown hK hW 0 (by decide) rfl rfl 6 (by decide) (hts _ q801) (fun _ h9 => h9) rfl dX3_counterOf_28 ?_
      refine lv_bipush (v := iI 8) hx hb dX3_counterOf_31 (by rfl) ?_
      refine lv_iload_n hx hb dX3_counterOf_33 rfl (lv_at hl 2 rfl) ?_
      refine z_imul hx hb dX3_counterOf_34 ?_
      refine lv_iload_n hx hb dX3_counterOf_35 rfl (lv_at hl 0 rfl) ?_
      refine z_iadd hx hb dX3_counterOf_36 ?_
      refine w_iald hx hb hK hW 6 0 (by decide) (n := 32) (g := we) rfl rfl (by omega) (by decide) dX3_counterOf_37 ?_
      exact z_retW hx hb hr hlk hW hS (by rw [if_pos c6, ← e_p9, if_neg c20]) dX3_counterOf_38
    · refine lv_iconst (v := iI 0) hx hb dX3_counterOf_23 (by rfl) ?_
      refine lv_goto (tgt := 38) hx hb dX3_counterOf_24 (by decide) ?_
      exact z_retW hx hb hr hlk hW hS (by rw [if_pos c6, ← e_p9, if_pos c20]) dX3_counterOf_38
  · have c6 := zb_0 c6
    refine lv_iconst (v := iI 0) hx hb dX3_counterOf_9 (by rfl) ?_
    exact z_retW hx hb hr hlk hW hS (by first | rw [if_pos (by assumption)] | rw [if_neg (by assumption)]) dX3_counterOf_10

/-! CountcoteModel: what its methods compute, in plain numbers; and their contracts -/
def mMul (row : Int) : Int := if row = 0 then 7 else if row = 1 then 11 else 23
def mSh (row : Int) : Int := if row = 0 then 3 else if row = 1 then 19 else 5
def mCol (row h : Int) : Int := (mMul row * h + mSh row) % 61 % 8
def mC (row : Int) : Int := if row = 0 then 5 else if row = 1 then 9 else if row = 2 then 14 else if row = 3 then 27 else 33
def mDd (row : Int) : Int := if row = 0 then 1 else if row = 1 then 8 else if row = 2 then 2 else if row = 3 then 40 else 17
def mSCol (row i : Int) : Int := (mC row * i + mDd row) % 67 % 8
def mE (row : Int) : Int := if row = 0 then 3 else if row = 1 then 10 else if row = 2 then 21 else if row = 3 then 29 else 44
def mF (row : Int) : Int := if row = 0 then 7 else if row = 1 then 0 else if row = 2 then 13 else if row = 3 then 5 else 30
def mSgn (row i : Int) : Int := if (mE row * i + mF row) % 71 % 2 = 0 then 1 else -1
theorem mCol_r {row h : Int} (hh : 0 ≤ h ∧ h ≤ 63) : 0 ≤ mMul row * h + mSh row ∧ mMul row * h + mSh row ≤ 2000 := by
  unfold mMul mSh
  repeat' split
  all_goals omega
theorem mSCol_r {row i : Int} (hh : 0 ≤ i ∧ i ≤ 63) : 0 ≤ mC row * i + mDd row ∧ mC row * i + mDd row ≤ 3000 := by
  unfold mC mDd
  repeat' split
  all_goals omega
theorem mSgn_r {row i : Int} (hh : 0 ≤ i ∧ i ≤ 63) : 0 ≤ mE row * i + mF row ∧ mE row * i + mF row ≤ 3000 := by
  unfold mE mF
  repeat' split
  all_goals omega
def zsum (g : Int → Int) (a : Int) : Nat → Int
  | 0 => 0
  | n + 1 => zsum g a n + g (a + n)
theorem zsum_step {g : Int → Int} {a f i : Int} (h : f ≤ i) : zsum g a (i + 1 - f).toNat = zsum g a (i - f).toNat + g (a + (i - f)) := by
  rw [show (i + 1 - f).toNat = (i - f).toNat + 1 by omega]
  show zsum g a (i - f).toNat + g (a + ((i - f).toNat : Int)) = _
  rw [show (((i - f).toNat : Nat) : Int) = i - f by omega]
theorem zsum_0 {g : Int → Int} {a f : Int} : zsum g a (f - f).toNat = 0 := by
  rw [show (f - f).toNat = 0 by omega]
  rfl
set_option maxHeartbeats 4000000 in
set_option maxRecDepth 100000 in
theorem kX3_isIn (l : Launch) (v n : Int) (hv : -2147483648 ≤ v ∧ v ≤ 2147483647) (hn : -2147483648 ≤ n ∧ n ≤ 2147483647) : Met l yX3_isIn (ws_ yX3_isIn cX3_isIn 2 (some .boolean)) ({ frames := 12, cells := 0, slots := 0, locals := 160 }) (va_Pc [.int (iI v), .int (iI n)] (fun _ => True)) (vp_Si (fun r => r = iI (zb (0 ≤ v ∧ v < n)))) 0 0 (fun _ => False) := by
  refine Met.ofW (cc := cX3_isIn) (maxL := 2) (ret := (some .boolean)) (by decide) rfl ?_
  intro p e s m args below meth c s₁ B hml hv
  obtain ⟨rfl, -⟩ := hv
  have hx := B.exec
  have hb := B.bytes
  have hr := B.returns
  have hlk := B.notSynchronized
  have hts := atoms_spec (ws := (ws_ yX3_isIn cX3_isIn 2 (some .boolean))) B.pre
  have hts : ∀ w ∈ lw_all, w.before _ s = true := fun w h => hts w (List.mem_cons_of_mem _ h)
  have hown : s.vm.findClass RX3 = some m.cls := findClass_of_methodNamed B.named
  have hl := lv_entry ([.int (iI v), .int (iI n)]) (n := 2) (Nat.le_of_ble_eq_true rfl)
  rw [lg_entry_eq]
  generalize (lg_sl ([.int (iI v), .int (iI n)]) ++ List.replicate (2 - (lg_sl ([.int (iI v), .int (iI n)])).length) Slot.unset).toArray = ls at hl ⊢
  have hl : lv_has ls 2 [(0, .int (iI v)), (1, .int (iI n))] := hl
  refine lv_iload_n hx hb dX3_isIn_0 rfl (lv_at hl 0 rfl) ?_
  refine z_if_lt (tgt := 13) hx hb dX3_isIn_1 (by decide) (by omega) (fun c_1 => ?_) (fun c_1 => ?_)
  · refine lv_iconst (v := iI 0) hx hb dX3_isIn_13 (by rfl) ?_
    exact z_retB hx hb hr hlk (zb_f (by omega)) (Or.inl rfl) dX3_isIn_14
  · refine lv_iload_n hx hb dX3_isIn_4 rfl (lv_at hl 0 rfl) ?_
    refine lv_iload_n hx hb dX3_isIn_5 rfl (lv_at hl 1 rfl) ?_
    refine z_icmp_ge (tgt := 13) hx hb dX3_isIn_6 (by decide) (by omega) (by omega) (fun c_2 => ?_) (fun c_2 => ?_)
    · refine lv_iconst (v := iI 0) hx hb dX3_isIn_13 (by rfl) ?_
      exact z_retB hx hb hr hlk (zb_f (by omega)) (Or.inl rfl) dX3_isIn_14
    · refine lv_iconst (v := iI 1) hx hb dX3_isIn_9 (by rfl) ?_
      refine lv_goto (tgt := 14) hx hb dX3_isIn_10 (by decide) ?_
      exact z_retB hx hb hr hlk (zb_t (by omega)) (Or.inr rfl) dX3_isIn_14
set_option maxHeartbeats 4000000 in
set_option maxRecDepth 100000 in
theorem kX3_isStream (l : Launch) (st : Int) (hv : -2147483648 ≤ st ∧ st ≤ 2147483647) : Met l yX3_isStream (ws_ yX3_isStream cX3_isStream 1 (some .boolean)) ({ frames := 13, cells := 0, slots := 0, locals := 200 }) (va_Pc [.int (iI st)] (fun _ => True)) (vp_Si (fun r => r = iI (zb (0 ≤ st ∧ st < 4)))) 0 0 (fun _ => False) := by
  refine Met.ofW (cc := cX3_isStream) (maxL := 1) (ret := (some .boolean)) (by decide) rfl ?_
  intro p e s m args below meth c s₁ B hml hv
  obtain ⟨rfl, -⟩ := hv
  have hx := B.exec
  have hb := B.bytes
  have hr := B.returns
  have hlk := B.notSynchronized
  have hts := atoms_spec (ws := (ws_ yX3_isStream cX3_isStream 1 (some .boolean))) B.pre
  have hts : ∀ w ∈ lw_all, w.before _ s = true := fun w h => hts w (List.mem_cons_of_mem _ h)
  have hown : s.vm.findClass RX3 = some m.cls := findClass_of_methodNamed B.named
  have hl := lv_entry ([.int (iI st)]) (n := 1) (Nat.le_of_ble_eq_true rfl)
  rw [lg_entry_eq]
  generalize (lg_sl ([.int (iI st)]) ++ List.replicate (1 - (lg_sl ([.int (iI st)])).length) Slot.unset).toArray = ls at hl ⊢
  have hl : lv_has ls 1 [(0, .int (iI st))] := hl
  refine lv_iload_n hx hb dX3_isStream_0 rfl (lv_at hl 0 rfl) ?_
  refine lv_iconst (v := iI 4) hx hb dX3_isStream_1 (by rfl) ?_
  refine z_cs (W.runS (As := [.int (iI st), .int (iI 4)]) (rest := []) ⟨hx, hb, hml, hown, hts⟩ (kX3_isIn l st 4 (by omega) (by omega)) (va_cwS 2 hts (lw_S q834 q835 q33 q836) rfl rfl rfl (by decide +kernel) ⟨Nat.le_of_ble_eq_true rfl, Nat.le_of_ble_eq_true rfl⟩) ⟨fun _ _ _ _ q => q, fun _ _ _ => ⟨rfl, trivial⟩⟩ rfl rfl hl.1 rfl (lv_room (Nat.le_of_ble_eq_true rfl)) dX3_isStream_2 ⟨Nat.le_of_ble_eq_true rfl, Nat.le_of_ble_eq_true rfl⟩) ?_
  exact z_retB hx hb hr hlk (rfl) (zb_01 _) dX3_isStream_5
set_option maxHeartbeats 4000000 in
set_option maxRecDepth 100000 in
theorem kX3_multiplier (l : Launch) (row : Int) (hv : 0 ≤ row ∧ row < 3) : Met l yX3_multiplier (ws_ yX3_multiplier cX3_multiplier 1 (some .int)) ({ frames := 12, cells := 0, slots := 0, locals := 160 }) (va_Pc [.int (iI row)] (fun _ => True)) (vp_Si (fun r => r = iI (mMul row))) 0 0 (fun _ => False) := by
  refine Met.ofW (cc := cX3_multiplier) (maxL := 1) (ret := (some .int)) (by decide) rfl ?_
  intro p e s m args below meth c s₁ B hml hv
  obtain ⟨rfl, -⟩ := hv
  have hx := B.exec
  have hb := B.bytes
  have hr := B.returns
  have hlk := B.notSynchronized
  have hts := atoms_spec (ws := (ws_ yX3_multiplier cX3_multiplier 1 (some .int))) B.pre
  have hts : ∀ w ∈ lw_all, w.before _ s = true := fun w h => hts w (List.mem_cons_of_mem _ h)
  have hown : s.vm.findClass RX3 = some m.cls := findClass_of_methodNamed B.named
  have hl := lv_entry ([.int (iI row)]) (n := 1) (Nat.le_of_ble_eq_true rfl)
  rw [lg_entry_eq]
  generalize (lg_sl ([.int (iI row)]) ++ List.replicate (1 - (lg_sl ([.int (iI row)])).length) Slot.unset).toArray = ls at hl ⊢
  have hl : lv_has ls 1 [(0, .int (iI row))] := hl
  refine lv_iload_n hx hb dX3_multiplier_0 rfl (lv_at hl 0 rfl) ?_
  refine z_if_ne (tgt := 9) hx hb dX3_multiplier_1 (by decide) (by omega) (fun c_1 => ?_) (fun c_1 => ?_)
  · refine lv_iload_n hx hb dX3_multiplier_9 rfl (lv_at hl 0 rfl) ?_
    refine lv_iconst (v := iI 1) hx hb dX3_multiplier_10 (by rfl) ?_
    refine z_icmp_ne (tgt := 19) hx hb dX3_multiplier_11 (by decide) (by omega) (by decide) (fun c_2 => ?_) (fun c_2 => ?_)
    · refine lv_bipush (v := iI 23) hx hb dX3_multiplier_19 (by rfl) ?_
      exact z_retS hx hb hr hlk (by unfold mMul; repeat' split; all_goals omega) dX3_multiplier_21
    · refine lv_bipush (v := iI 11) hx hb dX3_multiplier_14 (by rfl) ?_
      refine lv_goto (tgt := 21) hx hb dX3_multiplier_16 (by decide) ?_
      exact z_retS hx hb hr hlk (by unfold mMul; repeat' split; all_goals omega) dX3_multiplier_21
  · refine lv_bipush (v := iI 7) hx hb dX3_multiplier_4 (by rfl) ?_
    refine lv_goto (tgt := 21) hx hb dX3_multiplier_6 (by decide) ?_
    exact z_retS hx hb hr hlk (by unfold mMul; repeat' split; all_goals omega) dX3_multiplier_21
set_option maxHeartbeats 4000000 in
set_option maxRecDepth 100000 in
theorem kX3_shift (l : Launch) (row : Int) (hv : 0 ≤ row ∧ row < 3) : Met l yX3_shift (ws_ yX3_shift cX3_shift 1 (some .int)) ({ frames := 12, cells := 0, slots := 0, locals := 160 }) (va_Pc [.int (iI row)] (fun _ => True)) (vp_Si (fun r => r = iI (mSh row))) 0 0 (fun _ => False) := by
  refine Met.ofW (cc := cX3_shift) (maxL := 1) (ret := (some .int)) (by decide) rfl ?_
  intro p e s m args below meth c s₁ B hml hv
  obtain ⟨rfl, -⟩ := hv
  have hx := B.exec
  have hb := B.bytes
  have hr := B.returns
  have hlk := B.notSynchronized
  have hts := atoms_spec (ws := (ws_ yX3_shift cX3_shift 1 (some .int))) B.pre
  have hts : ∀ w ∈ lw_all, w.before _ s = true := fun w h => hts w (List.mem_cons_of_mem _ h)
  have hown : s.vm.findClass RX3 = some m.cls := findClass_of_methodNamed B.named
  have hl := lv_entry ([.int (iI row)]) (n := 1) (Nat.le_of_ble_eq_true rfl)
  rw [lg_entry_eq]
  generalize (lg_sl ([.int (iI row)]) ++ List.replicate (1 - (lg_sl ([.int (iI row)])).length) Slot.unset).toArray = ls at hl ⊢
  have hl : lv_has ls 1 [(0, .int (iI row))] := hl
  refine lv_iload_n hx hb dX3_shift_0 rfl (lv_at hl 0 rfl) ?_
  refine z_if_ne (tgt := 8) hx hb dX3_shift_1 (by decide) (by omega) (fun c_1 => ?_) (fun c_1 => ?_)
  · refine lv_iload_n hx hb dX3_shift_8 rfl (lv_at hl 0 rfl) ?_
    refine lv_iconst (v := iI 1) hx hb dX3_shift_9 (by rfl) ?_
    refine z_icmp_ne (tgt := 18) hx hb dX3_shift_10 (by decide) (by omega) (by decide) (fun c_2 => ?_) (fun c_2 => ?_)
    · refine lv_iconst (v := iI 5) hx hb dX3_shift_18 (by rfl) ?_
      exact z_retS hx hb hr hlk (by unfold mSh; repeat' split; all_goals omega) dX3_shift_19
    · refine lv_bipush (v := iI 19) hx hb dX3_shift_13 (by rfl) ?_
      refine lv_goto (tgt := 19) hx hb dX3_shift_15 (by decide) ?_
      exact z_retS hx hb hr hlk (by unfold mSh; repeat' split; all_goals omega) dX3_shift_19
  · refine lv_iconst (v := iI 3) hx hb dX3_shift_4 (by rfl) ?_
    refine lv_goto (tgt := 19) hx hb dX3_shift_5 (by decide) ?_
    exact z_retS hx hb hr hlk (by unfold mSh; repeat' split; all_goals omega) dX3_shift_19
set_option maxHeartbeats 4000000 in
set_option maxRecDepth 100000 in
theorem kX3_columnOf (l : Launch) (row h : Int) (hv : 0 ≤ row ∧ row < 3) (hh : 0 ≤ h ∧ h ≤ 63) : Met l yX3_columnOf (ws_ yX3_columnOf cX3_columnOf 2 (some .int)) ({ frames := 13, cells := 0, slots := 0, locals := 200 }) (va_Pc [.int (iI row), .int (iI h)] (fun _ => True)) (vp_Si (fun r => r = iI (mCol row h))) 0 0 (fun _ => False) := by
  refine Met.ofW (cc := cX3_columnOf) (maxL := 2) (ret := (some .int)) (by decide) rfl ?_
  intro p e s m args below meth c s₁ B hml hv
  obtain ⟨rfl, -⟩ := hv
  have hx := B.exec
  have hb := B.bytes
  have hr := B.returns
  have hlk := B.notSynchronized
  have hts := atoms_spec (ws := (ws_ yX3_columnOf cX3_columnOf 2 (some .int))) B.pre
  have hts : ∀ w ∈ lw_all, w.before _ s = true := fun w h => hts w (List.mem_cons_of_mem _ h)
  have hown : s.vm.findClass RX3 = some m.cls := findClass_of_methodNamed B.named
  have hl := lv_entry ([.int (iI row), .int (iI h)]) (n := 2) (Nat.le_of_ble_eq_true rfl)
  rw [lg_entry_eq]
  generalize (lg_sl ([.int (iI row), .int (iI h)]) ++ List.replicate (2 - (lg_sl ([.int (iI row), .int (iI h)])).length) Slot.unset).toArray = ls at hl ⊢
  have hl : lv_has ls 2 [(0, .int (iI row)), (1, .int (iI h))] := hl
  refine lv_iload_n hx hb dX3_columnOf_0 rfl (lv_at hl 0 rfl) ?_
  refine z_cs (W.runS (As := [.int (iI row)]) (rest := []) ⟨hx, hb, hml, hown, hts⟩ (kX3_multiplier l row (by omega)) (va_cwS 1 hts (lw_S q857 q858 q33 q859) rfl rfl rfl (by decide +kernel) ⟨Nat.le_of_ble_eq_true rfl, Nat.le_of_ble_eq_true rfl⟩) ⟨fun _ _ _ _ q => q, fun _ _ _ => ⟨rfl, trivial⟩⟩ rfl rfl hl.1 rfl (lv_room (Nat.le_of_ble_eq_true rfl)) dX3_columnOf_1 ⟨Nat.le_of_ble_eq_true rfl, Nat.le_of_ble_eq_true rfl⟩) ?_
  refine lv_iload_n hx hb dX3_columnOf_4 rfl (lv_at hl 1 rfl) ?_
  refine z_imul hx hb dX3_columnOf_5 ?_
  refine lv_iload_n hx hb dX3_columnOf_6 rfl (lv_at hl 0 rfl) ?_
  refine z_cs (W.runS (As := [.int (iI row)]) (rest := [.int (iI ((mMul row) * h))]) ⟨hx, hb, hml, hown, hts⟩ (kX3_shift l row (by omega)) (va_cwS 1 hts (lw_S q860 q861 q33 q862) rfl rfl rfl (by decide +kernel) ⟨Nat.le_of_ble_eq_true rfl, Nat.le_of_ble_eq_true rfl⟩) ⟨fun _ _ _ _ q => q, fun _ _ _ => ⟨rfl, trivial⟩⟩ rfl rfl hl.1 rfl (lv_room (Nat.le_of_ble_eq_true rfl)) dX3_columnOf_7 ⟨Nat.le_of_ble_eq_true rfl, Nat.le_of_ble_eq_true rfl⟩) ?_
  refine z_iadd hx hb dX3_columnOf_10 ?_
  refine lv_bipush (v := iI 61) hx hb dX3_columnOf_11 (by rfl) ?_
  have hq := mCol_r (row := row) hh
  refine z_irem hx hb dX3_columnOf_13 (by omega) (by decide) ?_
  refine lv_bipush (v := iI 8) hx hb dX3_columnOf_14 (by rfl) ?_
  refine z_irem hx hb dX3_columnOf_16 (by omega) (by decide) ?_
  exact z_retS hx hb hr hlk (rfl) dX3_columnOf_17
set_option maxHeartbeats 4000000 in
set_option maxRecDepth 100000 in
theorem kX3_placeOf (l : Launch) (st lev row col : Int) : Met l yX3_placeOf (ws_ yX3_placeOf cX3_placeOf 4 (some .int)) ({ frames := 12, cells := 0, slots := 0, locals := 160 }) (va_Pc [.int (iI st), .int (iI lev), .int (iI row), .int (iI col)] (fun _ => True)) (vp_Si (fun r => r = iI (72 * st + 24 * lev + 8 * row + col))) 0 0 (fun _ => False) := by
  refine Met.ofW (cc := cX3_placeOf) (maxL := 4) (ret := (some .int)) (by decide) rfl ?_
  intro p e s m args below meth c s₁ B hml hv
  obtain ⟨rfl, -⟩ := hv
  have hx := B.exec
  have hb := B.bytes
  have hr := B.returns
  have hlk := B.notSynchronized
  have hts := atoms_spec (ws := (ws_ yX3_placeOf cX3_placeOf 4 (some .int))) B.pre
  have hts : ∀ w ∈ lw_all, w.before _ s = true := fun w h => hts w (List.mem_cons_of_mem _ h)
  have hown : s.vm.findClass RX3 = some m.cls := findClass_of_methodNamed B.named
  have hl := lv_entry ([.int (iI st), .int (iI lev), .int (iI row), .int (iI col)]) (n := 4) (Nat.le_of_ble_eq_true rfl)
  rw [lg_entry_eq]
  generalize (lg_sl ([.int (iI st), .int (iI lev), .int (iI row), .int (iI col)]) ++ List.replicate (4 - (lg_sl ([.int (iI st), .int (iI lev), .int (iI row), .int (iI col)])).length) Slot.unset).toArray = ls at hl ⊢
  have hl : lv_has ls 4 [(0, .int (iI st)), (1, .int (iI lev)), (2, .int (iI row)), (3, .int (iI col))] := hl
  refine lv_bipush (v := iI 72) hx hb dX3_placeOf_0 (by rfl) ?_
  refine lv_iload_n hx hb dX3_placeOf_2 rfl (lv_at hl 0 rfl) ?_
  refine z_imul hx hb dX3_placeOf_3 ?_
  refine lv_bipush (v := iI 24) hx hb dX3_placeOf_4 (by rfl) ?_
  refine lv_iload_n hx hb dX3_placeOf_6 rfl (lv_at hl 1 rfl) ?_
  refine z_imul hx hb dX3_placeOf_7 ?_
  refine z_iadd hx hb dX3_placeOf_8 ?_
  refine lv_bipush (v := iI 8) hx hb dX3_placeOf_9 (by rfl) ?_
  refine lv_iload_n hx hb dX3_placeOf_11 rfl (lv_at hl 2 rfl) ?_
  refine z_imul hx hb dX3_placeOf_12 ?_
  refine z_iadd hx hb dX3_placeOf_13 ?_
  refine lv_iload_n hx hb dX3_placeOf_14 rfl (lv_at hl 3 rfl) ?_
  refine z_iadd hx hb dX3_placeOf_15 ?_
  exact z_retS hx hb hr hlk (rfl) dX3_placeOf_16
set_option maxHeartbeats 4000000 in
set_option maxRecDepth 100000 in
theorem kX3_sum (l : Launch) (D : va_G) (a : Nat → Nat) (kc : Nat → ClassId) (th : Int) (cn tt ce co it we tk fv : Int → Int) (st f t : Int) (hst : 0 ≤ st ∧ st < 4) (hf : 0 ≤ f ∧ f ≤ t + 1) (ht : t ≤ 63) : Met l yX3_sum (ws_ yX3_sum cX3_sum 6 (some .int)) ({ frames := 12, cells := 0, slots := 0, locals := 160 }) (va_Pc [.ref (a 0), .int (iI st), .int (iI f), .int (iI t)] (mR D a kc th cn tt ce co it we tk fv)) (vp_Si (fun r => r = iI (zsum cn (64 * st + f) (t + 1 - f).toNat))) 0 0 (fun _ => False) := by
  refine Met.ofW (cc := cX3_sum) (maxL := 6) (ret := (some .int)) (by decide) rfl ?_
  intro p e s m args below meth c s₁ B hml hv
  obtain ⟨rfl, hW, hK⟩ := hv
  have hx := B.exec
  have hb := B.bytes
  have hr := B.returns
  have hlk := B.notSynchronized
  have hts := atoms_spec (ws := (ws_ yX3_sum cX3_sum 6 (some .int))) B.pre
  have hts : ∀ w ∈ lw_all, w.before _ s = true := fun w h => hts w (List.mem_cons_of_mem _ h)
  have hown : s.vm.findClass RX3 = some m.cls := findClass_of_methodNamed B.named
  have hl := lv_entry ([.ref (a 0), .int (iI st), .int (iI f), .int (iI t)]) (n := 6) (Nat.le_of_ble_eq_true rfl)
  rw [lg_entry_eq]
  generalize (lg_sl ([.ref (a 0), .int (iI st), .int (iI f), .int (iI t)]) ++ List.replicate (6 - (lg_sl ([.ref (a 0), .int (iI st), .int (iI f), .int (iI t)])).length) Slot.unset).toArray = ls at hl ⊢
  have hl : lv_has ls 6 [(0, .ref (a 0)), (1, .int (iI st)), (2, .int (iI f)), (3, .int (iI t))] := hl
  refine lv_iconst (v := iI 0) hx hb dX3_sum_0 (by rfl) ?_
  refine lv_istore (lv' := [(4, .int (iI 0)), (0, .ref (a 0)), (1, .int (iI st)), (2, .int (iI f)), (3, .int (iI t))]) hx hb dX3_sum_1 hl (by decide) rfl (fun ls hl => ?_)
  refine lv_iload_n hx hb dX3_sum_3 rfl (lv_at hl 3 rfl) ?_
  refine lv_istore (lv' := [(5, .int (iI f)), (4, .int (iI 0)), (0, .ref (a 0)), (1, .int (iI st)), (2, .int (iI f)), (3, .int (iI t))]) hx hb dX3_sum_4 hl (by decide) rfl (fun ls hl => ?_)
  refine z_loopR (σ := Int × Int) (fun x9 => [(0, .ref (a 0)), (1, .int (iI st)), (2, .int (iI f)), (3, .int (iI t)), (4, .int (iI x9.2)), (5, .int (iI x9.1))]) (fun x9 => (f ≤ x9.1 ∧ x9.1 ≤ t + 1) ∧ (x9.2 = zsum cn (64 * st + f) (x9.1 - f).toNat)) (fun x9 => (t + 1 - x9.1).toNat) ?_ (f, 0) (by show (f ≤ f ∧ f ≤ t + 1) ∧ ((0 : Int) = zsum cn (64 * st + f) (f - f).toNat); exact ⟨by omega, zsum_0.symm⟩) (lv_sub hl [2, 3, 4, 5, 1, 0] rfl)
  rintro ⟨i, acc⟩ hI9 ih_6 ls hl
  have hI9 : (f ≤ i ∧ i ≤ t + 1) ∧ (acc = zsum cn (64 * st + f) (i - f).toNat) := hI9
  obtain ⟨h1, h2⟩ := hI9
  have hl : lv_has ls 6 [(0, .ref (a 0)), (1, .int (iI st)), (2, .int (iI f)), (3, .int (iI t)), (4, .int (iI acc)), (5, .int (iI i))] := hl
  refine lv_iload hx hb dX3_sum_6 (lv_at hl 5 rfl) ?_
  refine lv_iload_n hx hb dX3_sum_8 rfl (lv_at hl 3 rfl) ?_
  refine z_icmp_gt (tgt := 35) hx hb dX3_sum_9 (by decide) (by omega) (by omega) (fun c_1 => ?_) (fun c_1 => ?_)
  · refine lv_iload hx hb dX3_sum_35 (lv_at hl 4 rfl) ?_
    exact z_retS hx hb hr hlk (by rw [h2]; congr 1; omega) dX3_sum_37
  · refine lv_iload hx hb dX3_sum_12 (lv_at hl 4 rfl) ?_
    refine lv_aload_n hx hb dX3_sum_14 rfl (lv_at hl 0 rfl) ?_
    refine w_getf (ci := 0) (v := .ref (a 1)) (C := RX3) (T := TX3) (N := 9) hx hb hts in_X3 hown hK hW 0 (by decide) rfl rfl 1 (by decide) (hts _ q796) (fun _ h9 => h9) rfl dX3_sum_15 ?_
    refine lv_bipush (v := iI 64) hx hb dX3_sum_18 (by rfl) ?_
    refine lv_iload_n hx hb dX3_sum_20 rfl (lv_at hl 1 rfl) ?_
    refine z_imul hx hb dX3_sum_21 ?_
    refine lv_iload hx hb dX3_sum_22 (lv_at hl 5 rfl) ?_
    refine z_iadd hx hb dX3_sum_24 ?_
    refine w_iald hx hb hK hW 1 0 (by decide) (n := 256) (g := cn) rfl rfl (by omega) (by decide) dX3_sum_25 ?_
    refine z_iadd hx hb dX3_sum_26 ?_
    refine lv_istore (lv' := [(4, .int (iI (acc + (cn ((64 * st) + i))))), (0, .ref (a 0)), (1, .int (iI st)), (2, .int (iI f)), (3, .int (iI t)), (5, .int (iI i))]) hx hb dX3_sum_27 hl (by decide) rfl (fun ls hl => ?_)
    refine lv_iinc (v := iI (i + 1)) (lv' := [(5, .int (iI (i + 1))), (4, .int (iI (acc + (cn ((64 * st) + i))))), (0, .ref (a 0)), (1, .int (iI st)), (2, .int (iI f)), (3, .int (iI t))]) hx hb dX3_sum_29 hl (k := 5) rfl (iI_add _ _) (by decide) rfl (fun ls hl => ?_)
    refine lv_goto (tgt := 6) hx hb dX3_sum_32 (by decide) ?_
    exact ih_6 ((i + 1), (acc + (cn ((64 * st) + i)))) (by show (f ≤ (i + 1) ∧ (i + 1) ≤ t + 1) ∧ ((acc + (cn ((64 * st) + i))) = zsum cn (64 * st + f) ((i + 1) - f).toNat); exact ⟨by omega, by rw [zsum_step (by omega), h2, show 64 * st + f + (i - f) = 64 * st + i by omega]⟩) (by show (t + 1 - (i + 1)).toNat < (t + 1 - i).toNat; omega) ls (lv_sub hl [2, 3, 4, 5, 1, 0] rfl)

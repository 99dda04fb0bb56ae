/-! CountcoteModel, sixth part: what changes it -/
theorem zb_n1 {p : Prop} [Decidable p] (h : p) : ¬ zb p = 0 := by simp [zb, h]
theorem zb_n0 {p : Prop} [Decidable p] (h : ¬ p) : ¬ ¬ zb p = 0 := by simp [zb, h]
theorem cdAdd_0 {st i w tot : Int} (h : cdAdd st i w tot = 0) : (0 ≤ st ∧ st < 4) ∧ (0 ≤ i ∧ i < 64) ∧ (1 ≤ w ∧ w ≤ 1000) ∧ tot + w ≤ 1000000 := by
  unfold cdAdd at h
  repeat' split at h
  all_goals omega
theorem cdMg_0 {st ot ta tb : Int} (h : cdMg st ot ta tb = 0) : (0 ≤ st ∧ st < 4) ∧ (0 ≤ ot ∧ ot < 4) ∧ ¬ st = ot ∧ ta + tb ≤ 1000000 := by
  unfold cdMg at h
  repeat' split at h
  all_goals omega
/-- a row of an array comes to another one -/
def mAdS (n0 st ot : Int) (g : Int → Int) : Nat → (Int → Int)
  | 0 => g
  | n + 1 => zu (mAdS n0 st ot g n) (n0 * st + n) (mAdS n0 st ot g n (n0 * st + n) + mAdS n0 st ot g n (n0 * ot + n))
theorem mAdS_s {n0 st ot : Int} {g : Int → Int} {k : Int} (h : 0 ≤ k) : mAdS n0 st ot g (k + 1).toNat = zu (mAdS n0 st ot g k.toNat) (n0 * st + k) (mAdS n0 st ot g k.toNat (n0 * st + k) + mAdS n0 st ot g k.toNat (n0 * ot + k)) := by
  rw [show (k + 1).toNat = k.toNat + 1 by omega]
  show zu (mAdS n0 st ot g k.toNat) (n0 * st + ((k.toNat : Nat) : Int)) (mAdS n0 st ot g k.toNat (n0 * st + ((k.toNat : Nat) : Int)) + mAdS n0 st ot g k.toNat (n0 * ot + ((k.toNat : Nat) : Int))) = _
  rw [show ((k.toNat : Nat) : Int) = k by omega]
/-- a row of an array is made nought -/
def mClr (n0 st : Int) (g : Int → Int) : Nat → (Int → Int)
  | 0 => g
  | n + 1 => zu (mClr n0 st g n) (n0 * st + n) 0
theorem mClr_s {n0 st : Int} {g : Int → Int} {k : Int} (h : 0 ≤ k) : mClr n0 st g (k + 1).toNat = zu (mClr n0 st g k.toNat) (n0 * st + k) 0 := by
  rw [show (k + 1).toNat = k.toNat + 1 by omega]
  show zu (mClr n0 st g k.toNat) (n0 * st + ((k.toNat : Nat) : Int)) 0 = _
  rw [show ((k.toNat : Nat) : Int) = k by omega]
set_option maxHeartbeats 4000000 in
set_option maxRecDepth 100000 in
theorem kX3_add_ok (l : Launch) (D : va_G) (a : Nat → Nat) (kc : Nat → ClassId) (th : Int) (cn tt ce co it we tk fv : Int → Int) (sz : Nat) (st i w : Int) (h_st : -2147483648 ≤ st ∧ st ≤ 2147483647) (h_i : -2147483648 ≤ i ∧ i ≤ 2147483647) (h_w : -2147483648 ≤ w ∧ w ≤ 2147483647) (hcd : cdAdd st i w (tt st) = 0) (hcn : ∀ i9 : Int, 0 ≤ cn i9 ∧ cn i9 ≤ 1000000) (hce : ∀ i9 : Int, 0 ≤ ce i9 ∧ ce i9 ≤ 1000000) (htt : ∀ i9 : Int, 0 ≤ tt i9 ∧ tt i9 ≤ 1000000) (hit : ∀ i9 : Int, 0 ≤ it i9 ∧ it i9 ≤ 63) (hco : ∀ i9 : Int, 0 ≤ co i9 ∧ co i9 ≤ 4) (hwe : ∀ s9 j9 : Int, 0 ≤ s9 → s9 < 4 → 0 ≤ j9 → j9 < co s9 → 0 ≤ we (8 * s9 + j9) ∧ we (8 * s9 + j9) ≤ 1000000) (hcw : cn (64 * st + i) + w ≤ 1000000) : Met l yX3_add (ws_ yX3_add cX3_add 5 (some .int)) ({ frames := 17, cells := 0, slots := 0, locals := 360 }) (va_Pc [.ref (a 0), .int (iI st), .int (iI i), .int (iI w)] (mW D a kc th cn tt ce co it we tk fv sz)) (va_Qi (fun (r : Int32) (_ : Unit) => r = iI (tt st + w)) (fun (_ : Unit) t8 => RW D clz mL a (mct a kc 0 (zu cn (64 * st + i) (cn (64 * st + i) + w)) (zu tt st (tt st + w)) (mCare (zu cn (64 * st + i) (cn (64 * st + i) + w)) st i w ce 3) ((mAddC st i w (co, it, we, tk)).1) ((mAddC st i w (co, it, we, tk)).2.1) ((mAddC st i w (co, it, we, tk)).2.2.1) ((mAddC st i w (co, it, we, tk)).2.2.2) fv) t8.heap) (RA mL a sz)) 0 0 (RA mL a sz) := by
  refine Met.ofW (cc := cX3_add) (maxL := 5) (ret := (some .int)) (by decide) rfl ?_
  intro p e s m args below meth c s₁ B hml hv
  obtain ⟨rfl, hsz, hW, hK, hJ0⟩ := hv
  subst hsz
  have hJ := hJ0.self (sz := s.heap.size)
  have hS : va_S (RA mL a s.heap.size) s.heap s.heap [] := va_S.rf
  have hx := B.exec
  have hb := B.bytes
  have hr := B.returns
  have hlk := B.notSynchronized
  have hts := atoms_spec (ws := (ws_ yX3_add cX3_add 5 (some .int))) B.pre
  have hts : ∀ w ∈ lw_all, w.before _ s = true := fun w h => hts w (List.mem_cons_of_mem _ h)
  have hown : s.vm.findClass RX3 = some m.cls := findClass_of_methodNamed B.named
  have hl := lv_entry ([.ref (a 0), .int (iI st), .int (iI i), .int (iI w)]) (n := 5) (Nat.le_of_ble_eq_true rfl)
  rw [lg_entry_eq]
  generalize (lg_sl ([.ref (a 0), .int (iI st), .int (iI i), .int (iI w)]) ++ List.replicate (5 - (lg_sl ([.ref (a 0), .int (iI st), .int (iI i), .int (iI w)])).length) Slot.unset).toArray = ls at hl ⊢
  have hl : lv_has ls 5 [(0, .ref (a 0)), (1, .int (iI st)), (2, .int (iI i)), (3, .int (iI w))] := hl
  have hq := cdAdd_0 hcd
  have hts9 := htt st
  have hcs := hco st
  refine lv_iload_n hx hb dX3_add_0 rfl (lv_at hl 1 rfl) ?_
  refine z_cs (W.runS (As := [.int (iI st)]) (rest := []) ⟨hx, hb, hml, hown, hts⟩ (kX3_isStream l st (by omega)) (va_cwS 1 hts (lw_S q831 q832 q33 q833) rfl rfl rfl (by decide +kernel) ⟨Nat.le_of_ble_eq_true rfl, Nat.le_of_ble_eq_true rfl⟩) ⟨fun _ _ _ _ q => q, fun _ _ _ => ⟨rfl, trivial⟩⟩ rfl rfl hl.1 rfl (lv_room (Nat.le_of_ble_eq_true rfl)) dX3_add_1 ⟨Nat.le_of_ble_eq_true rfl, Nat.le_of_ble_eq_true rfl⟩) ?_
  refine z_if_eq (tgt := 20) hx hb dX3_add_4 (by decide) (zb_r _) (fun c_1 => absurd c_1 (zb_n1 (by omega))) (fun c_1 => ?_)
  refine lv_iload_n hx hb dX3_add_7 rfl (lv_at hl 2 rfl) ?_
  refine lv_bipush (v := iI 64) hx hb dX3_add_8 (by rfl) ?_
  refine z_cs (W.runS (As := [.int (iI i), .int (iI 64)]) (rest := []) ⟨hx, hb, hml, hown, hts⟩ (kX3_isIn l i 64 (by omega) (by omega)) (va_cwS 2 hts (lw_S q834 q835 q33 q836) rfl rfl rfl (by decide +kernel) ⟨Nat.le_of_ble_eq_true rfl, Nat.le_of_ble_eq_true rfl⟩) ⟨fun _ _ _ _ q => q, fun _ _ _ => ⟨rfl, trivial⟩⟩ rfl rfl hl.1 rfl (lv_room (Nat.le_of_ble_eq_true rfl)) dX3_add_10 ⟨Nat.le_of_ble_eq_true rfl, Nat.le_of_ble_eq_true rfl⟩) ?_
  refine z_if_eq (tgt := 20) hx hb dX3_add_13 (by decide) (zb_r _) (fun c_2 => absurd c_2 (zb_n1 (by omega))) (fun c_2 => ?_)
  refine lv_iconst (v := iI 1) hx hb dX3_add_16 (by rfl) ?_
  refine lv_goto (tgt := 21) hx hb dX3_add_17 (by decide) ?_
  refine lv_istore (lv' := [(4, .int (iI 1)), (0, .ref (a 0)), (1, .int (iI st)), (2, .int (iI i)), (3, .int (iI w))]) hx hb dX3_add_21 hl (by decide) rfl (fun ls hl => ?_)
  refine lv_aload_n hx hb dX3_add_23 rfl (lv_at hl 1 rfl) ?_
  refine lv_iload hx hb dX3_add_24 (lv_at hl 0 rfl) ?_
  refine z_if_ne (tgt := 33) hx hb dX3_add_26 (by decide) (by decide) (fun _ => ?_) (fun h9 => absurd h9 (by decide))
  refine lv_iload_n hx hb dX3_add_33 rfl (lv_at hl 4 rfl) ?_
  refine lv_iconst (v := iI 1) hx hb dX3_add_34 (by rfl) ?_
  refine z_icmp_lt (tgt := 45) hx hb dX3_add_35 (by decide) (by omega) (by decide) (fun c_4 => absurd c_4 (by omega)) (fun c_4 => ?_)
  refine lv_iload_n hx hb dX3_add_38 rfl (lv_at hl 4 rfl) ?_
  refine lv_sipush (v := iI 1000) hx hb dX3_add_39 (by rfl) ?_
  refine z_icmp_le (tgt := 49) hx hb dX3_add_42 (by decide) (by omega) (by decide) (fun c_5 => ?_) (fun c_5 => absurd c_5 (by omega))
  refine lv_aload_n hx hb dX3_add_49 rfl (lv_at hl 1 rfl) ?_
  refine w_getf (ci := 0) (v := .ref (a 2)) (C := RX3) (T := TX3) (N := 9) hx hb hts in_X3 hown hK hW 0 (by decide) rfl rfl 2 (by decide) (hts _ q797) (fun _ h9 => h9) rfl dX3_add_50 ?_
  refine lv_iload_n hx hb dX3_add_53 rfl (lv_at hl 2 rfl) ?_
  refine w_iald hx hb hK hW 2 0 (by decide) (n := 4) (g := tt) rfl rfl (by omega) (by decide) dX3_add_54 ?_
  refine lv_iload_n hx hb dX3_add_55 rfl (lv_at hl 4 rfl) ?_
  refine z_iadd hx hb dX3_add_56 ?_
  refine lv_ldc (v := iI 1000000) hx hb hown (hts _ q837) dX3_add_57 ?_
  refine z_icmp_le (tgt := 66) hx hb dX3_add_59 (by decide) (by omega) (by decide) (fun c_6 => ?_) (fun c_6 => absurd c_6 (by omega))
  refine lv_iconst (v := iI 0) hx hb dX3_add_66 (by rfl) ?_
  refine va_calli (va_runV (As := [.int (iI 0)]) (rest := []) ⟨hx, hb, hml, hown, hts⟩ (kX3_holds l D a kc th cn tt ce co it we tk fv _ 0 (by omega)) (cwV 1 hts (lw_V q838 q840 qs11 q33 q841) rfl rfl rfl (by decide +kernel) ⟨Nat.le_of_ble_eq_true rfl, Nat.le_of_ble_eq_true rfl⟩) ⟨mW_blind, w_recv hK hW 0 (by decide) rfl rfl, mW_pre hW hK hJ.any⟩ rfl rfl hl.1 rfl (lv_room (Nat.le_of_ble_eq_true rfl)) dX3_add_67 ⟨Nat.le_of_ble_eq_true rfl, Nat.le_of_ble_eq_true rfl⟩) hS (fun q _ h => RA.mono hS.1 q h) (RA.mono hS.1) (fun r9 u9 t9 H locs ht9 hvm9 hr9 hB9 hz9 hk9 hS => ?_)
  subst hr9
  have hW : RW D clz mL a (mct a kc 0 cn tt ce co it we tk fv) H := by rw [← ht9]; exact hB9
  refine z_as 1 (by decide) ?_
  refine z_if_ne (tgt := 75) hx hb dX3_add_70 (by decide) (by decide) (fun _ => ?_) (fun h9 => absurd h9 (by decide))
  refine lv_aload_n hx hb dX3_add_75 rfl (lv_at hl 1 rfl) ?_
  refine w_getf (ci := 0) (v := .ref (a 1)) (C := RX3) (T := TX3) (N := 9) hx hb hts in_X3 hown hK hW 0 (by decide) rfl rfl 1 (by decide) (hts _ q796) (fun _ h9 => h9) rfl dX3_add_76 ?_
  refine lv_bipush (v := iI 64) hx hb dX3_add_79 (by rfl) ?_
  refine lv_iload_n hx hb dX3_add_81 rfl (lv_at hl 2 rfl) ?_
  refine z_imul hx hb dX3_add_82 ?_
  refine lv_iload_n hx hb dX3_add_83 rfl (lv_at hl 3 rfl) ?_
  refine z_iadd hx hb dX3_add_84 ?_
  refine lv_dup2_11 hx hb dX3_add_85 rfl rfl ?_
  refine w_iald hx hb hK hW 1 0 (by decide) (n := 256) (g := cn) rfl rfl (by omega) (by decide) dX3_add_86 ?_
  refine lv_iload_n hx hb dX3_add_87 rfl (lv_at hl 4 rfl) ?_
  refine z_iadd hx hb dX3_add_88 ?_
  refine w_iast hx hb hK hW hJ hS 1 0 (by decide) (n := 256) (g := cn) rfl rfl (by omega) (by decide) (mct_1 _ _ _ _ _ _ _ _ _ _ _ _) dX3_add_89 (fun H locs hW hS hz => ?_)
  have hW : RW D clz mL a (mct a kc 0 (zu cn ((64 * st) + i) ((cn ((64 * st) + i)) + w)) tt ce co it we tk fv) H := hW
  refine lv_aload_n hx hb dX3_add_90 rfl (lv_at hl 1 rfl) ?_
  refine w_getf (ci := 0) (v := .ref (a 2)) (C := RX3) (T := TX3) (N := 9) hx hb hts in_X3 hown hK hW 0 (by decide) rfl rfl 2 (by decide) (hts _ q797) (fun _ h9 => h9) rfl dX3_add_91 ?_
  refine lv_iload_n hx hb dX3_add_94 rfl (lv_at hl 2 rfl) ?_
  refine lv_dup2_11 hx hb dX3_add_95 rfl rfl ?_
  refine w_iald hx hb hK hW 2 0 (by decide) (n := 4) (g := tt) rfl rfl (by omega) (by decide) dX3_add_96 ?_
  refine lv_iload_n hx hb dX3_add_97 rfl (lv_at hl 4 rfl) ?_
  refine z_iadd hx hb dX3_add_98 ?_
  refine w_iast hx hb hK hW hJ hS 2 0 (by decide) (n := 4) (g := tt) rfl rfl (by omega) (by decide) (mct_2 _ _ _ _ _ _ _ _ _ _ _ _) dX3_add_99 (fun H locs hW hS hz => ?_)
  have hW : RW D clz mL a (mct a kc 0 (zu cn ((64 * st) + i) ((cn ((64 * st) + i)) + w)) (zu tt st ((tt st) + w)) ce co it we tk fv) H := hW
  refine lv_aload_n hx hb dX3_add_100 rfl (lv_at hl 1 rfl) ?_
  refine lv_iload_n hx hb dX3_add_101 rfl (lv_at hl 2 rfl) ?_
  refine lv_iload_n hx hb dX3_add_102 rfl (lv_at hl 3 rfl) ?_
  refine lv_iload_n hx hb dX3_add_103 rfl (lv_at hl 4 rfl) ?_
  refine va_callv (va_runV (As := [.int (iI st), .int (iI i), .int (iI w)]) (rest := []) ⟨hx, hb, hml, hown, hts⟩ (kX3_addsCarefully l D a kc 0 (zu cn ((64 * st) + i) ((cn ((64 * st) + i)) + w)) (zu tt st ((tt st) + w)) ce co it we tk fv _ st i w (by omega) (by omega) (by omega) (hce) (zu_all (P := fun z => 0 ≤ z ∧ z ≤ 1000000) hcn (by have := hcn (64 * st + i); omega))) (cwV 3 hts (lw_V q842 q844 qs12 q33 q845) rfl rfl rfl (by decide +kernel) ⟨Nat.le_of_ble_eq_true rfl, Nat.le_of_ble_eq_true rfl⟩) ⟨mW_blind, w_recv hK hW 0 (by decide) rfl rfl, mW_pre hW hK hJ.any⟩ rfl rfl hl.1 rfl (lv_room (Nat.le_of_ble_eq_true rfl)) dX3_add_104 ⟨Nat.le_of_ble_eq_true rfl, Nat.le_of_ble_eq_true rfl⟩) hS (fun q _ h => RA.mono hS.1 q h) (RA.mono hS.1) (fun u9 t9 H locs ht9 hvm9 hr9 hB9 hz9 hk9 hS => ?_)
  have hW : RW D clz mL a (mct a kc 0 (zu cn ((64 * st) + i) ((cn ((64 * st) + i)) + w)) (zu tt st ((tt st) + w)) (mCare (zu cn ((64 * st) + i) ((cn ((64 * st) + i)) + w)) st i w ce 3) co it we tk fv) H := by rw [← ht9]; exact hB9
  refine lv_aload_n hx hb dX3_add_107 rfl (lv_at hl 1 rfl) ?_
  refine lv_iload_n hx hb dX3_add_108 rfl (lv_at hl 2 rfl) ?_
  refine lv_iload_n hx hb dX3_add_109 rfl (lv_at hl 3 rfl) ?_
  refine lv_iload_n hx hb dX3_add_110 rfl (lv_at hl 4 rfl) ?_
  refine va_callv (va_runV (As := [.int (iI st), .int (iI i), .int (iI w)]) (rest := []) ⟨hx, hb, hml, hown, hts⟩ (kX3_addsToCounters l D a kc 0 (zu cn ((64 * st) + i) ((cn ((64 * st) + i)) + w)) (zu tt st ((tt st) + w)) (mCare (zu cn ((64 * st) + i) ((cn ((64 * st) + i)) + w)) st i w ce 3) co it we tk fv _ (mAddC st i w (co, it, we, tk)) st i w (by omega) (by omega) (by omega) (by omega) (hit) (fun j9 h1 h2 => hwe st j9 (by omega) (by omega) h1 h2) (rfl)) (cwV 3 hts (lw_V q866 q868 qs15 q33 q869) rfl rfl rfl (by decide +kernel) ⟨Nat.le_of_ble_eq_true rfl, Nat.le_of_ble_eq_true rfl⟩) ⟨mW_blind, w_recv hK hW 0 (by decide) rfl rfl, mW_pre hW hK hJ.any⟩ rfl rfl hl.1 rfl (lv_room (Nat.le_of_ble_eq_true rfl)) dX3_add_111 ⟨Nat.le_of_ble_eq_true rfl, Nat.le_of_ble_eq_true rfl⟩) hS (fun q _ h => RA.mono hS.1 q h) (RA.mono hS.1) (fun u9 t9 H locs ht9 hvm9 hr9 hB9 hz9 hk9 hS => ?_)
  have hW : RW D clz mL a (mct a kc 0 (zu cn ((64 * st) + i) ((cn ((64 * st) + i)) + w)) (zu tt st ((tt st) + w)) (mCare (zu cn ((64 * st) + i) ((cn ((64 * st) + i)) + w)) st i w ce 3) (((mAddC st i w (co, it, we, tk))).1) (((mAddC st i w (co, it, we, tk))).2.1) (((mAddC st i w (co, it, we, tk))).2.2.1) (((mAddC st i w (co, it, we, tk))).2.2.2) fv) H := by rw [← ht9]; exact hB9
  refine lv_aload_n hx hb dX3_add_114 rfl (lv_at hl 1 rfl) ?_
  refine w_getf (ci := 0) (v := .ref (a 2)) (C := RX3) (T := TX3) (N := 9) hx hb hts in_X3 hown hK hW 0 (by decide) rfl rfl 2 (by decide) (hts _ q797) (fun _ h9 => h9) rfl dX3_add_115 ?_
  refine lv_iload_n hx hb dX3_add_118 rfl (lv_at hl 2 rfl) ?_
  refine w_iald hx hb hK hW 2 0 (by decide) (n := 4) (g := (zu tt st ((tt st) + w))) rfl rfl (by omega) (by decide) dX3_add_119 ?_
  exact z_retW hx hb hr hlk hW hS (by rw [zu_s]) dX3_add_120
set_option maxHeartbeats 4000000 in
set_option maxRecDepth 100000 in
theorem kX3_add_no (l : Launch) (D : va_G) (a : Nat → Nat) (kc : Nat → ClassId) (th : Int) (cn tt ce co it we tk fv : Int → Int) (sz : Nat) (st i w : Int) (h_st : -2147483648 ≤ st ∧ st ≤ 2147483647) (h_i : -2147483648 ≤ i ∧ i ≤ 2147483647) (h_w : -2147483648 ≤ w ∧ w ≤ 2147483647) (hcd : ¬ cdAdd st i w (tt st) = 0) (htt : ∀ i9 : Int, 0 ≤ tt i9 ∧ tt i9 ≤ 1000000) : Met l yX3_add (ws_ yX3_add cX3_add 5 (some .int)) ({ frames := 17, cells := 0, slots := 0, locals := 360 }) (va_Pc [.ref (a 0), .int (iI st), .int (iI i), .int (iI w)] (mW D a kc th cn tt ce co it we tk fv sz)) (va_Qi (fun (r : Int32) (_ : Unit) => r = iI 0) (fun (_ : Unit) t8 => RW D clz mL a (mct a kc (cdAdd st i w (tt st)) cn tt ce co it we tk fv) t8.heap) (RA mL a sz)) 0 0 (RA mL a sz) := by
  refine Met.ofW (cc := cX3_add) (maxL := 5) (ret := (some .int)) (by decide) rfl ?_
  intro p e s m args below meth c s₁ B hml hv
  obtain ⟨rfl, hsz, hW, hK, hJ0⟩ := hv
  subst hsz
  have hJ := hJ0.self (sz := s.heap.size)
  have hS : va_S (RA mL a s.heap.size) s.heap s.heap [] := va_S.rf
  have hx := B.exec
  have hb := B.bytes
  have hr := B.returns
  have hlk := B.notSynchronized
  have hts := atoms_spec (ws := (ws_ yX3_add cX3_add 5 (some .int))) B.pre
  have hts : ∀ w ∈ lw_all, w.before _ s = true := fun w h => hts w (List.mem_cons_of_mem _ h)
  have hown : s.vm.findClass RX3 = some m.cls := findClass_of_methodNamed B.named
  have hl := lv_entry ([.ref (a 0), .int (iI st), .int (iI i), .int (iI w)]) (n := 5) (Nat.le_of_ble_eq_true rfl)
  rw [lg_entry_eq]
  generalize (lg_sl ([.ref (a 0), .int (iI st), .int (iI i), .int (iI w)]) ++ List.replicate (5 - (lg_sl ([.ref (a 0), .int (iI st), .int (iI i), .int (iI w)])).length) Slot.unset).toArray = ls at hl ⊢
  have hl : lv_has ls 5 [(0, .ref (a 0)), (1, .int (iI st)), (2, .int (iI i)), (3, .int (iI w))] := hl
  refine lv_iload_n hx hb dX3_add_0 rfl (lv_at hl 1 rfl) ?_
  refine z_cs (W.runS (As := [.int (iI st)]) (rest := []) ⟨hx, hb, hml, hown, hts⟩ (kX3_isStream l st (by omega)) (va_cwS 1 hts (lw_S q831 q832 q33 q833) rfl rfl rfl (by decide +kernel) ⟨Nat.le_of_ble_eq_true rfl, Nat.le_of_ble_eq_true rfl⟩) ⟨fun _ _ _ _ q => q, fun _ _ _ => ⟨rfl, trivial⟩⟩ rfl rfl hl.1 rfl (lv_room (Nat.le_of_ble_eq_true rfl)) dX3_add_1 ⟨Nat.le_of_ble_eq_true rfl, Nat.le_of_ble_eq_true rfl⟩) ?_
  refine z_if_eq (tgt := 20) hx hb dX3_add_4 (by decide) (zb_r _) (fun c_1 => ?_) (fun c_1 => ?_)
  · have c_1 := zb_0 c_1
    refine lv_iconst (v := iI 0) hx hb dX3_add_20 (by rfl) ?_
    refine lv_istore (lv' := [(4, .int (iI 0)), (0, .ref (a 0)), (1, .int (iI st)), (2, .int (iI i)), (3, .int (iI w))]) hx hb dX3_add_21 hl (by decide) rfl (fun ls hl => ?_)
    refine lv_aload_n hx hb dX3_add_23 rfl (lv_at hl 1 rfl) ?_
    refine lv_iload hx hb dX3_add_24 (lv_at hl 0 rfl) ?_
    refine z_if_ne (tgt := 33) hx hb dX3_add_26 (by decide) (by decide) (fun h9 => absurd h9 (by decide)) (fun _ => ?_)
    refine lv_iconst (v := iI 1) hx hb dX3_add_29 (by rfl) ?_
    refine lv_goto (tgt := 67) hx hb dX3_add_30 (by decide) ?_
    refine va_calli (va_runV (As := [.int (iI 1)]) (rest := []) ⟨hx, hb, hml, hown, hts⟩ (kX3_holds l D a kc th cn tt ce co it we tk fv _ 1 (by omega)) (cwV 1 hts (lw_V q838 q840 qs11 q33 q841) rfl rfl rfl (by decide +kernel) ⟨Nat.le_of_ble_eq_true rfl, Nat.le_of_ble_eq_true rfl⟩) ⟨mW_blind, w_recv hK hW 0 (by decide) rfl rfl, mW_pre hW hK hJ.any⟩ rfl rfl hl.1 rfl (lv_room (Nat.le_of_ble_eq_true rfl)) dX3_add_67 ⟨Nat.le_of_ble_eq_true rfl, Nat.le_of_ble_eq_true rfl⟩) hS (fun q _ h => RA.mono hS.1 q h) (RA.mono hS.1) (fun r9 u9 t9 H locs ht9 hvm9 hr9 hB9 hz9 hk9 hS => ?_)
    subst hr9
    have hW : RW D clz mL a (mct a kc 1 cn tt ce co it we tk fv) H := by rw [← ht9]; exact hB9
    refine z_as 0 (by decide) ?_
    refine z_if_ne (tgt := 75) hx hb dX3_add_70 (by decide) (by decide) (fun h9 => absurd h9 (by decide)) (fun _ => ?_)
    refine lv_iconst (v := iI 0) hx hb dX3_add_73 (by rfl) ?_
    have hz9 : cdAdd st i w (tt st) = 1 := by unfold cdAdd; (repeat' split) <;> omega
    rw [hz9]
    exact z_retW hx hb hr hlk hW hS (rfl) dX3_add_74
  · have c_1 := zb_1 c_1
    refine lv_iload_n hx hb dX3_add_7 rfl (lv_at hl 2 rfl) ?_
    refine lv_bipush (v := iI 64) hx hb dX3_add_8 (by rfl) ?_
    refine z_cs (W.runS (As := [.int (iI i), .int (iI 64)]) (rest := []) ⟨hx, hb, hml, hown, hts⟩ (kX3_isIn l i 64 (by omega) (by omega)) (va_cwS 2 hts (lw_S q834 q835 q33 q836) rfl rfl rfl (by decide +kernel) ⟨Nat.le_of_ble_eq_true rfl, Nat.le_of_ble_eq_true rfl⟩) ⟨fun _ _ _ _ q => q, fun _ _ _ => ⟨rfl, trivial⟩⟩ rfl rfl hl.1 rfl (lv_room (Nat.le_of_ble_eq_true rfl)) dX3_add_10 ⟨Nat.le_of_ble_eq_true rfl, Nat.le_of_ble_eq_true rfl⟩) ?_
    refine z_if_eq (tgt := 20) hx hb dX3_add_13 (by decide) (zb_r _) (fun c_4 => ?_) (fun c_4 => ?_)
    · have c_4 := zb_0 c_4
      refine lv_iconst (v := iI 0) hx hb dX3_add_20 (by rfl) ?_
      refine lv_istore (lv' := [(4, .int (iI 0)), (0, .ref (a 0)), (1, .int (iI st)), (2, .int (iI i)), (3, .int (iI w))]) hx hb dX3_add_21 hl (by decide) rfl (fun ls hl => ?_)
      refine lv_aload_n hx hb dX3_add_23 rfl (lv_at hl 1 rfl) ?_
      refine lv_iload hx hb dX3_add_24 (lv_at hl 0 rfl) ?_
      refine z_if_ne (tgt := 33) hx hb dX3_add_26 (by decide) (by decide) (fun h9 => absurd h9 (by decide)) (fun _ => ?_)
      refine lv_iconst (v := iI 1) hx hb dX3_add_29 (by rfl) ?_
      refine lv_goto (tgt := 67) hx hb dX3_add_30 (by decide) ?_
      refine va_calli (va_runV (As := [.int (iI 1)]) (rest := []) ⟨hx, hb, hml, hown, hts⟩ (kX3_holds l D a kc th cn tt ce co it we tk fv _ 1 (by omega)) (cwV 1 hts (lw_V q838 q840 qs11 q33 q841) rfl rfl rfl (by decide +kernel) ⟨Nat.le_of_ble_eq_true rfl, Nat.le_of_ble_eq_true rfl⟩) ⟨mW_blind, w_recv hK hW 0 (by decide) rfl rfl, mW_pre hW hK hJ.any⟩ rfl rfl hl.1 rfl (lv_room (Nat.le_of_ble_eq_true rfl)) dX3_add_67 ⟨Nat.le_of_ble_eq_true rfl, Nat.le_of_ble_eq_true rfl⟩) hS (fun q _ h => RA.mono hS.1 q h) (RA.mono hS.1) (fun r9 u9 t9 H locs ht9 hvm9 hr9 hB9 hz9 hk9 hS => ?_)
      subst hr9
      have hW : RW D clz mL a (mct a kc 1 cn tt ce co it we tk fv) H := by rw [← ht9]; exact hB9
      refine z_as 0 (by decide) ?_
      refine z_if_ne (tgt := 75) hx hb dX3_add_70 (by decide) (by decide) (fun h9 => absurd h9 (by decide)) (fun _ => ?_)
      refine lv_iconst (v := iI 0) hx hb dX3_add_73 (by rfl) ?_
      have hz9 : cdAdd st i w (tt st) = 1 := by unfold cdAdd; (repeat' split) <;> omega
      rw [hz9]
      exact z_retW hx hb hr hlk hW hS (rfl) dX3_add_74
    · have c_4 := zb_1 c_4
      refine lv_iconst (v := iI 1) hx hb dX3_add_16 (by rfl) ?_
      refine lv_goto (tgt := 21) hx hb dX3_add_17 (by decide) ?_
      refine lv_istore (lv' := [(4, .int (iI 1)), (0, .ref (a 0)), (1, .int (iI st)), (2, .int (iI i)), (3, .int (iI w))]) hx hb dX3_add_21 hl (by decide) rfl (fun ls hl => ?_)
      refine lv_aload_n hx hb dX3_add_23 rfl (lv_at hl 1 rfl) ?_
      refine lv_iload hx hb dX3_add_24 (lv_at hl 0 rfl) ?_
      refine z_if_ne (tgt := 33) hx hb dX3_add_26 (by decide) (by decide) (fun _ => ?_) (fun h9 => absurd h9 (by decide))
      refine lv_iload_n hx hb dX3_add_33 rfl (lv_at hl 4 rfl) ?_
      refine lv_iconst (v := iI 1) hx hb dX3_add_34 (by rfl) ?_
      refine z_icmp_lt (tgt := 45) hx hb dX3_add_35 (by decide) (by omega) (by decide) (fun c_8 => ?_) (fun c_8 => ?_)
      · refine lv_iconst (v := iI 2) hx hb dX3_add_45 (by rfl) ?_
        refine lv_goto (tgt := 67) hx hb dX3_add_46 (by decide) ?_
        refine va_calli (va_runV (As := [.int (iI 2)]) (rest := []) ⟨hx, hb, hml, hown, hts⟩ (kX3_holds l D a kc th cn tt ce co it we tk fv _ 2 (by omega)) (cwV 1 hts (lw_V q838 q840 qs11 q33 q841) rfl rfl rfl (by decide +kernel) ⟨Nat.le_of_ble_eq_true rfl, Nat.le_of_ble_eq_true rfl⟩) ⟨mW_blind, w_recv hK hW 0 (by decide) rfl rfl, mW_pre hW hK hJ.any⟩ rfl rfl hl.1 rfl (lv_room (Nat.le_of_ble_eq_true rfl)) dX3_add_67 ⟨Nat.le_of_ble_eq_true rfl, Nat.le_of_ble_eq_true rfl⟩) hS (fun q _ h => RA.mono hS.1 q h) (RA.mono hS.1) (fun r9 u9 t9 H locs ht9 hvm9 hr9 hB9 hz9 hk9 hS => ?_)
        subst hr9
        have hW : RW D clz mL a (mct a kc 2 cn tt ce co it we tk fv) H := by rw [← ht9]; exact hB9
        refine z_as 0 (by decide) ?_
        refine z_if_ne (tgt := 75) hx hb dX3_add_70 (by decide) (by decide) (fun h9 => absurd h9 (by decide)) (fun _ => ?_)
        refine lv_iconst (v := iI 0) hx hb dX3_add_73 (by rfl) ?_
        have hz9 : cdAdd st i w (tt st) = 2 := by unfold cdAdd; (repeat' split) <;> omega
        rw [hz9]
        exact z_retW hx hb hr hlk hW hS (rfl) dX3_add_74
      · refine lv_iload_n hx hb dX3_add_38 rfl (lv_at hl 4 rfl) ?_
        refine lv_sipush (v := iI 1000) hx hb dX3_add_39 (by rfl) ?_
        refine z_icmp_le (tgt := 49) hx hb dX3_add_42 (by decide) (by omega) (by decide) (fun c_10 => ?_) (fun c_10 => ?_)
        · have hts9 := htt st
          refine lv_aload_n hx hb dX3_add_49 rfl (lv_at hl 1 rfl) ?_
          refine w_getf (ci := 0) (v := .ref (a 2)) (C := RX3) (T := TX3) (N := 9) hx hb hts in_X3 hown hK hW 0 (by decide) rfl rfl 2 (by decide) (hts _ q797) (fun _ h9 => h9) rfl dX3_add_50 ?_
          refine lv_iload_n hx hb dX3_add_53 rfl (lv_at hl 2 rfl) ?_
          refine w_iald hx hb hK hW 2 0 (by decide) (n := 4) (g := tt) rfl rfl (by omega) (by decide) dX3_add_54 ?_
          refine lv_iload_n hx hb dX3_add_55 rfl (lv_at hl 4 rfl) ?_
          refine z_iadd hx hb dX3_add_56 ?_
          refine lv_ldc (v := iI 1000000) hx hb hown (hts _ q837) dX3_add_57 ?_
          refine z_icmp_le (tgt := 66) hx hb dX3_add_59 (by decide) (by omega) (by decide) (fun c_11 => absurd c_11 (fun h9 => hcd (by unfold cdAdd; (repeat' split) <;> omega))) (fun c_11 => ?_)
          refine lv_iconst (v := iI 3) hx hb dX3_add_62 (by rfl) ?_
          refine lv_goto (tgt := 67) hx hb dX3_add_63 (by decide) ?_
          refine va_calli (va_runV (As := [.int (iI 3)]) (rest := []) ⟨hx, hb, hml, hown, hts⟩ (kX3_holds l D a kc th cn tt ce co it we tk fv _ 3 (by omega)) (cwV 1 hts (lw_V q838 q840 qs11 q33 q841) rfl rfl rfl (by decide +kernel) ⟨Nat.le_of_ble_eq_true rfl, Nat.le_of_ble_eq_true rfl⟩) ⟨mW_blind, w_recv hK hW 0 (by decide) rfl rfl, mW_pre hW hK hJ.any⟩ rfl rfl hl.1 rfl (lv_room (Nat.le_of_ble_eq_true rfl)) dX3_add_67 ⟨Nat.le_of_ble_eq_true rfl, Nat.le_of_ble_eq_true rfl⟩) hS (fun q _ h => RA.mono hS.1 q h) (RA.mono hS.1) (fun r9 u9 t9 H locs ht9 hvm9 hr9 hB9 hz9 hk9 hS => ?_)
          subst hr9
          have hW : RW D clz mL a (mct a kc 3 cn tt ce co it we tk fv) H := by rw [← ht9]; exact hB9
          refine z_as 0 (by decide) ?_
          refine z_if_ne (tgt := 75) hx hb dX3_add_70 (by decide) (by decide) (fun h9 => absurd h9 (by decide)) (fun _ => ?_)
          refine lv_iconst (v := iI 0) hx hb dX3_add_73 (by rfl) ?_
          have hz9 : cdAdd st i w (tt st) = 3 := by unfold cdAdd; (repeat' split) <;> omega
          rw [hz9]
          exact z_retW hx hb hr hlk hW hS (rfl) dX3_add_74
        · refine lv_iconst (v := iI 2) hx hb dX3_add_45 (by rfl) ?_
          refine lv_goto (tgt := 67) hx hb dX3_add_46 (by decide) ?_
          refine va_calli (va_runV (As := [.int (iI 2)]) (rest := []) ⟨hx, hb, hml, hown, hts⟩ (kX3_holds l D a kc th cn tt ce co it we tk fv _ 2 (by omega)) (cwV 1 hts (lw_V q838 q840 qs11 q33 q841) rfl rfl rfl (by decide +kernel) ⟨Nat.le_of_ble_eq_true rfl, Nat.le_of_ble_eq_true rfl⟩) ⟨mW_blind, w_recv hK hW 0 (by decide) rfl rfl, mW_pre hW hK hJ.any⟩ rfl rfl hl.1 rfl (lv_room (Nat.le_of_ble_eq_true rfl)) dX3_add_67 ⟨Nat.le_of_ble_eq_true rfl, Nat.le_of_ble_eq_true rfl⟩) hS (fun q _ h => RA.mono hS.1 q h) (RA.mono hS.1) (fun r9 u9 t9 H locs ht9 hvm9 hr9 hB9 hz9 hk9 hS => ?_)
          subst hr9
          have hW : RW D clz mL a (mct a kc 2 cn tt ce co it we tk fv) H := by rw [← ht9]; exact hB9
          refine z_as 0 (by decide) ?_
          refine z_if_ne (tgt := 75) hx hb dX3_add_70 (by decide) (by decide) (fun h9 => absurd h9 (by decide)) (fun _ => ?_)
          refine lv_iconst (v := iI 0) hx hb dX3_add_73 (by rfl) ?_
          have hz9 : cdAdd st i w (tt st) = 2 := by unfold cdAdd; (repeat' split) <;> omega
          rw [hz9]
          exact z_retW hx hb hr hlk hW hS (rfl) dX3_add_74
set_option maxHeartbeats 4000000 in
set_option maxRecDepth 100000 in
theorem kX3_merge_ok (l : Launch) (D : va_G) (a : Nat → Nat) (kc : Nat → ClassId) (th : Int) (cn tt ce co it we tk fv : Int → Int) (sz : Nat) (st ot : Int) (h_st : -2147483648 ≤ st ∧ st ≤ 2147483647) (h_ot : -2147483648 ≤ ot ∧ ot ≤ 2147483647) (hcd : cdMg st ot (tt st) (tt ot) = 0) (htt : ∀ i9 : Int, 0 ≤ tt i9 ∧ tt i9 ≤ 1000000) (hit : ∀ i9 : Int, 0 ≤ it i9 ∧ it i9 ≤ 63) (hco : ∀ i9 : Int, 0 ≤ co i9 ∧ co i9 ≤ 4) (hwe : ∀ s9 j9 : Int, 0 ≤ s9 → s9 < 4 → 0 ≤ j9 → j9 < co s9 → 0 ≤ we (8 * s9 + j9) ∧ we (8 * s9 + j9) ≤ 1000000) : Met l yX3_merge (ws_ yX3_merge cX3_merge 5 (some .int)) ({ frames := 17, cells := 0, slots := 0, locals := 360 }) (va_Pc [.ref (a 0), .int (iI st), .int (iI ot)] (mW D a kc th cn tt ce co it we tk fv sz)) (va_Qi (fun (r : Int32) (_ : Unit) => r = iI (tt st + tt ot)) (fun (_ : Unit) t8 => RW D clz mL a (mct a kc 0 (mAdS 64 st ot cn 64) (zu tt st (tt st + tt ot)) (mAdS 72 st ot ce 72) ((mMgC st ot (co, it, we, tk)).1) ((mMgC st ot (co, it, we, tk)).2.1) ((mMgC st ot (co, it, we, tk)).2.2.1) ((mMgC st ot (co, it, we, tk)).2.2.2) fv) t8.heap) (RA mL a sz)) 0 0 (RA mL a sz) := by
  refine Met.ofW (cc := cX3_merge) (maxL := 5) (ret := (some .int)) (by decide) rfl ?_
  intro p e s m args below meth c s₁ B hml hv
  obtain ⟨rfl, hsz, hW, hK, hJ0⟩ := hv
  subst hsz
  have hJ := hJ0.self (sz := s.heap.size)
  have hS : va_S (RA mL a s.heap.size) s.heap s.heap [] := va_S.rf
  have hx := B.exec
  have hb := B.bytes
  have hr := B.returns
  have hlk := B.notSynchronized
  have hts := atoms_spec (ws := (ws_ yX3_merge cX3_merge 5 (some .int))) B.pre
  have hts : ∀ w ∈ lw_all, w.before _ s = true := fun w h => hts w (List.mem_cons_of_mem _ h)
  have hown : s.vm.findClass RX3 = some m.cls := findClass_of_methodNamed B.named
  have hl := lv_entry ([.ref (a 0), .int (iI st), .int (iI ot)]) (n := 5) (Nat.le_of_ble_eq_true rfl)
  rw [lg_entry_eq]
  generalize (lg_sl ([.ref (a 0), .int (iI st), .int (iI ot)]) ++ List.replicate (5 - (lg_sl ([.ref (a 0), .int (iI st), .int (iI ot)])).length) Slot.unset).toArray = ls at hl ⊢
  have hl : lv_has ls 5 [(0, .ref (a 0)), (1, .int (iI st)), (2, .int (iI ot))] := hl
  have hq := cdMg_0 hcd
  have hts9 := htt st
  have hts8 := htt ot
  have hcs := hco st
  have hcs2 := hco ot
  refine lv_iload_n hx hb dX3_merge_0 rfl (lv_at hl 1 rfl) ?_
  refine z_cs (W.runS (As := [.int (iI st)]) (rest := []) ⟨hx, hb, hml, hown, hts⟩ (kX3_isStream l st (by omega)) (va_cwS 1 hts (lw_S q831 q832 q33 q833) rfl rfl rfl (by decide +kernel) ⟨Nat.le_of_ble_eq_true rfl, Nat.le_of_ble_eq_true rfl⟩) ⟨fun _ _ _ _ q => q, fun _ _ _ => ⟨rfl, trivial⟩⟩ rfl rfl hl.1 rfl (lv_room (Nat.le_of_ble_eq_true rfl)) dX3_merge_1 ⟨Nat.le_of_ble_eq_true rfl, Nat.le_of_ble_eq_true rfl⟩) ?_
  refine z_if_eq (tgt := 18) hx hb dX3_merge_4 (by decide) (zb_r _) (fun c_1 => absurd c_1 (zb_n1 (by omega))) (fun c_1 => ?_)
  refine lv_iload_n hx hb dX3_merge_7 rfl (lv_at hl 2 rfl) ?_
  refine z_cs (W.runS (As := [.int (iI ot)]) (rest := []) ⟨hx, hb, hml, hown, hts⟩ (kX3_isStream l ot (by omega)) (va_cwS 1 hts (lw_S q831 q832 q33 q833) rfl rfl rfl (by decide +kernel) ⟨Nat.le_of_ble_eq_true rfl, Nat.le_of_ble_eq_true rfl⟩) ⟨fun _ _ _ _ q => q, fun _ _ _ => ⟨rfl, trivial⟩⟩ rfl rfl hl.1 rfl (lv_room (Nat.le_of_ble_eq_true rfl)) dX3_merge_8 ⟨Nat.le_of_ble_eq_true rfl, Nat.le_of_ble_eq_true rfl⟩) ?_
  refine z_if_eq (tgt := 18) hx hb dX3_merge_11 (by decide) (zb_r _) (fun c_2 => absurd c_2 (zb_n1 (by omega))) (fun c_2 => ?_)
  refine lv_iconst (v := iI 1) hx hb dX3_merge_14 (by rfl) ?_
  refine lv_goto (tgt := 19) hx hb dX3_merge_15 (by decide) ?_
  refine lv_istore_n (lv' := [(3, .int (iI 1)), (0, .ref (a 0)), (1, .int (iI st)), (2, .int (iI ot))]) hx hb dX3_merge_19 rfl hl (by decide) rfl (fun ls hl => ?_)
  refine lv_aload_n hx hb dX3_merge_20 rfl (lv_at hl 1 rfl) ?_
  refine lv_iload_n hx hb dX3_merge_21 rfl (lv_at hl 0 rfl) ?_
  refine z_if_ne (tgt := 29) hx hb dX3_merge_22 (by decide) (by decide) (fun _ => ?_) (fun h9 => absurd h9 (by decide))
  refine lv_iload_n hx hb dX3_merge_29 rfl (lv_at hl 2 rfl) ?_
  refine lv_iload_n hx hb dX3_merge_30 rfl (lv_at hl 3 rfl) ?_
  refine z_icmp_ne (tgt := 38) hx hb dX3_merge_31 (by decide) (by omega) (by omega) (fun c_4 => ?_) (fun c_4 => absurd c_4 (by omega))
  refine lv_aload_n hx hb dX3_merge_38 rfl (lv_at hl 1 rfl) ?_
  refine w_getf (ci := 0) (v := .ref (a 2)) (C := RX3) (T := TX3) (N := 9) hx hb hts in_X3 hown hK hW 0 (by decide) rfl rfl 2 (by decide) (hts _ q797) (fun _ h9 => h9) rfl dX3_merge_39 ?_
  refine lv_iload_n hx hb dX3_merge_42 rfl (lv_at hl 2 rfl) ?_
  refine w_iald hx hb hK hW 2 0 (by decide) (n := 4) (g := tt) rfl rfl (by omega) (by decide) dX3_merge_43 ?_
  refine lv_aload_n hx hb dX3_merge_44 rfl (lv_at hl 1 rfl) ?_
  refine w_getf (ci := 0) (v := .ref (a 2)) (C := RX3) (T := TX3) (N := 9) hx hb hts in_X3 hown hK hW 0 (by decide) rfl rfl 2 (by decide) (hts _ q797) (fun _ h9 => h9) rfl dX3_merge_45 ?_
  refine lv_iload_n hx hb dX3_merge_48 rfl (lv_at hl 3 rfl) ?_
  refine w_iald hx hb hK hW 2 0 (by decide) (n := 4) (g := tt) rfl rfl (by omega) (by decide) dX3_merge_49 ?_
  refine z_iadd hx hb dX3_merge_50 ?_
  refine lv_ldc (v := iI 1000000) hx hb hown (hts _ q837) dX3_merge_51 ?_
  refine z_icmp_le (tgt := 60) hx hb dX3_merge_53 (by decide) (by omega) (by decide) (fun c_5 => ?_) (fun c_5 => absurd c_5 (by omega))
  refine lv_iconst (v := iI 0) hx hb dX3_merge_60 (by rfl) ?_
  refine va_calli (va_runV (As := [.int (iI 0)]) (rest := []) ⟨hx, hb, hml, hown, hts⟩ (kX3_holds l D a kc th cn tt ce co it we tk fv _ 0 (by omega)) (cwV 1 hts (lw_V q838 q840 qs11 q33 q841) rfl rfl rfl (by decide +kernel) ⟨Nat.le_of_ble_eq_true rfl, Nat.le_of_ble_eq_true rfl⟩) ⟨mW_blind, w_recv hK hW 0 (by decide) rfl rfl, mW_pre hW hK hJ.any⟩ rfl rfl hl.1 rfl (lv_room (Nat.le_of_ble_eq_true rfl)) dX3_merge_61 ⟨Nat.le_of_ble_eq_true rfl, Nat.le_of_ble_eq_true rfl⟩) hS (fun q _ h => RA.mono hS.1 q h) (RA.mono hS.1) (fun r9 u9 t9 H locs ht9 hvm9 hr9 hB9 hz9 hk9 hS => ?_)
  subst hr9
  have hW : RW D clz mL a (mct a kc 0 cn tt ce co it we tk fv) H := by rw [← ht9]; exact hB9
  refine z_as 1 (by decide) ?_
  refine z_if_ne (tgt := 69) hx hb dX3_merge_64 (by decide) (by decide) (fun _ => ?_) (fun h9 => absurd h9 (by decide))
  refine lv_iconst (v := iI 0) hx hb dX3_merge_69 (by rfl) ?_
  refine lv_istore (lv' := [(4, .int (iI 0)), (3, .int (iI 1)), (0, .ref (a 0)), (1, .int (iI st)), (2, .int (iI ot))]) hx hb dX3_merge_70 hl (by decide) rfl (fun ls hl => ?_)
  refine z_loopW (σ := Int × (Int → Int)) (fun x9 => [(0, .ref (a 0)), (1, .int (iI st)), (2, .int (iI ot)), (3, .int (iI 1)), (4, .int (iI x9.1))]) (fun x9 => (0 ≤ x9.1 ∧ x9.1 ≤ 64) ∧ (x9.2 = mAdS 64 st ot cn x9.1.toNat)) (fun x9 H9 => RW D clz mL a (mct a kc 0 x9.2 tt ce co it we tk fv) H9) (fun x9 => (64 - x9.1).toNat) ?_ (0, cn) (by show (0 ≤ (0 : Int) ∧ (0 : Int) ≤ 64) ∧ (cn = mAdS 64 st ot cn (0 : Int).toNat); exact ⟨by omega, rfl⟩) hW hS (lv_sub hl [2, 3, 4, 1, 0] rfl)
  rintro ⟨k, cn1⟩ H locs hI9 hW hS ih_72 ls hl
  have hI9 : (0 ≤ k ∧ k ≤ 64) ∧ (cn1 = mAdS 64 st ot cn k.toNat) := hI9
  obtain ⟨g1, g2⟩ := hI9
  have hl : lv_has ls 5 [(0, .ref (a 0)), (1, .int (iI st)), (2, .int (iI ot)), (3, .int (iI 1)), (4, .int (iI k))] := hl
  have hW : RW D clz mL a (mct a kc 0 cn1 tt ce co it we tk fv) H := hW
  refine lv_iload hx hb dX3_merge_72 (lv_at hl 4 rfl) ?_
  refine lv_bipush (v := iI 64) hx hb dX3_merge_74 (by rfl) ?_
  refine z_icmp_ge (tgt := 112) hx hb dX3_merge_76 (by decide) (by omega) (by decide) (fun c_7 => ?_) (fun c_7 => ?_)
  · have hk : k = 64 := by omega
    rw [hk] at g2
    have g3 : cn1 = mAdS 64 st ot cn 64 := g2
    subst g3
    refine lv_iconst (v := iI 0) hx hb dX3_merge_112 (by rfl) ?_
    refine lv_istore (lv' := [(4, .int (iI 0)), (0, .ref (a 0)), (1, .int (iI st)), (2, .int (iI ot)), (3, .int (iI 1))]) hx hb dX3_merge_113 hl (by decide) rfl (fun ls hl => ?_)
    refine z_loopW (σ := Int × (Int → Int)) (fun x9 => [(0, .ref (a 0)), (1, .int (iI st)), (2, .int (iI ot)), (3, .int (iI 1)), (4, .int (iI x9.1))]) (fun x9 => (0 ≤ x9.1 ∧ x9.1 ≤ 72) ∧ (x9.2 = mAdS 72 st ot ce x9.1.toNat)) (fun x9 H9 => RW D clz mL a (mct a kc 0 (mAdS 64 st ot cn 64) tt x9.2 co it we tk fv) H9) (fun x9 => (72 - x9.1).toNat) ?_ (0, ce) (by show (0 ≤ (0 : Int) ∧ (0 : Int) ≤ 72) ∧ (ce = mAdS 72 st ot ce (0 : Int).toNat); exact ⟨by omega, rfl⟩) hW hS (lv_sub hl [1, 2, 3, 4, 0] rfl)
    rintro ⟨k, ce1⟩ H locs hI9 hW hS ih_115 ls hl
    have hI9 : (0 ≤ k ∧ k ≤ 72) ∧ (ce1 = mAdS 72 st ot ce k.toNat) := hI9
    obtain ⟨k1, k2⟩ := hI9
    have hl : lv_has ls 5 [(0, .ref (a 0)), (1, .int (iI st)), (2, .int (iI ot)), (3, .int (iI 1)), (4, .int (iI k))] := hl
    have hW : RW D clz mL a (mct a kc 0 (mAdS 64 st ot cn 64) tt ce1 co it we tk fv) H := hW
    refine lv_iload hx hb dX3_merge_115 (lv_at hl 4 rfl) ?_
    refine lv_bipush (v := iI 72) hx hb dX3_merge_117 (by rfl) ?_
    refine z_icmp_ge (tgt := 155) hx hb dX3_merge_119 (by decide) (by omega) (by decide) (fun c_8 => ?_) (fun c_8 => ?_)
    · have hk2 : k = 72 := by omega
      rw [hk2] at k2
      have k3 : ce1 = mAdS 72 st ot ce 72 := k2
      subst k3
      refine lv_aload_n hx hb dX3_merge_155 rfl (lv_at hl 0 rfl) ?_
      refine w_getf (ci := 0) (v := .ref (a 2)) (C := RX3) (T := TX3) (N := 9) hx hb hts in_X3 hown hK hW 0 (by decide) rfl rfl 2 (by decide) (hts _ q797) (fun _ h9 => h9) rfl dX3_merge_156 ?_
      refine lv_iload_n hx hb dX3_merge_159 rfl (lv_at hl 1 rfl) ?_
      refine lv_dup2_11 hx hb dX3_merge_160 rfl rfl ?_
      refine w_iald hx hb hK hW 2 0 (by decide) (n := 4) (g := tt) rfl rfl (by omega) (by decide) dX3_merge_161 ?_
      refine lv_aload_n hx hb dX3_merge_162 rfl (lv_at hl 0 rfl) ?_
      refine w_getf (ci := 0) (v := .ref (a 2)) (C := RX3) (T := TX3) (N := 9) hx hb hts in_X3 hown hK hW 0 (by decide) rfl rfl 2 (by decide) (hts _ q797) (fun _ h9 => h9) rfl dX3_merge_163 ?_
      refine lv_iload_n hx hb dX3_merge_166 rfl (lv_at hl 2 rfl) ?_
      refine w_iald hx hb hK hW 2 0 (by decide) (n := 4) (g := tt) rfl rfl (by omega) (by decide) dX3_merge_167 ?_
      refine z_iadd hx hb dX3_merge_168 ?_
      refine w_iast hx hb hK hW hJ hS 2 0 (by decide) (n := 4) (g := tt) rfl rfl (by omega) (by decide) (mct_2 _ _ _ _ _ _ _ _ _ _ _ _) dX3_merge_169 (fun H locs hW hS hz => ?_)
      have hW : RW D clz mL a (mct a kc 0 (mAdS 64 st ot cn 64) (zu tt st ((tt st) + (tt ot))) (mAdS 72 st ot ce 72) co it we tk fv) H := hW
      refine lv_aload_n hx hb dX3_merge_170 rfl (lv_at hl 0 rfl) ?_
      refine lv_iload_n hx hb dX3_merge_171 rfl (lv_at hl 1 rfl) ?_
      refine lv_iload_n hx hb dX3_merge_172 rfl (lv_at hl 2 rfl) ?_
      refine va_callv (va_runV (As := [.int (iI st), .int (iI ot)]) (rest := []) ⟨hx, hb, hml, hown, hts⟩ (kX3_mergesCounters l D a kc 0 (mAdS 64 st ot cn 64) (zu tt st ((tt st) + (tt ot))) (mAdS 72 st ot ce 72) co it we tk fv _ (mMgC st ot (co, it, we, tk)) st ot (by omega) (by omega) (by omega) (by omega) (by omega) (hit) (fun j9 h1 h2 => hwe st j9 (by omega) (by omega) h1 h2) (fun j9 h1 h2 => hwe ot j9 (by omega) (by omega) h1 h2) (rfl)) (cwV 2 hts (lw_V q886 q888 qs19 q33 q889) rfl rfl rfl (by decide +kernel) ⟨Nat.le_of_ble_eq_true rfl, Nat.le_of_ble_eq_true rfl⟩) ⟨mW_blind, w_recv hK hW 0 (by decide) rfl rfl, mW_pre hW hK hJ.any⟩ rfl rfl hl.1 rfl (lv_room (Nat.le_of_ble_eq_true rfl)) dX3_merge_173 ⟨Nat.le_of_ble_eq_true rfl, Nat.le_of_ble_eq_true rfl⟩) hS (fun q _ h => RA.mono hS.1 q h) (RA.mono hS.1) (fun u9 t9 H locs ht9 hvm9 hr9 hB9 hz9 hk9 hS => ?_)
      have hW : RW D clz mL a (mct a kc 0 (mAdS 64 st ot cn 64) (zu tt st ((tt st) + (tt ot))) (mAdS 72 st ot ce 72) (((mMgC st ot (co, it, we, tk))).1) (((mMgC st ot (co, it, we, tk))).2.1) (((mMgC st ot (co, it, we, tk))).2.2.1) (((mMgC st ot (co, it, we, tk))).2.2.2) fv) H := by rw [← ht9]; exact hB9
      refine lv_aload_n hx hb dX3_merge_176 rfl (lv_at hl 0 rfl) ?_
      refine w_getf (ci := 0) (v := .ref (a 2)) (C := RX3) (T := TX3) (N := 9) hx hb hts in_X3 hown hK hW 0 (by decide) rfl rfl 2 (by decide) (hts _ q797) (fun _ h9 => h9) rfl dX3_merge_177 ?_
      refine lv_iload_n hx hb dX3_merge_180 rfl (lv_at hl 1 rfl) ?_
      refine w_iald hx hb hK hW 2 0 (by decide) (n := 4) (g := (zu tt st ((tt st) + (tt ot)))) rfl rfl (by omega) (by decide) dX3_merge_181 ?_
      exact z_retW hx hb hr hlk hW hS (by rw [zu_s]) dX3_merge_182
    · refine lv_aload_n hx hb dX3_merge_122 rfl (lv_at hl 0 rfl) ?_
      refine w_getf (ci := 0) (v := .ref (a 3)) (C := RX3) (T := TX3) (N := 9) hx hb hts in_X3 hown hK hW 0 (by decide) rfl rfl 3 (by decide) (hts _ q798) (fun _ h9 => h9) rfl dX3_merge_123 ?_
      refine lv_bipush (v := iI 72) hx hb dX3_merge_126 (by rfl) ?_
      refine lv_iload_n hx hb dX3_merge_128 rfl (lv_at hl 1 rfl) ?_
      refine z_imul hx hb dX3_merge_129 ?_
      refine lv_iload hx hb dX3_merge_130 (lv_at hl 4 rfl) ?_
      refine z_iadd hx hb dX3_merge_132 ?_
      refine lv_dup2_11 hx hb dX3_merge_133 rfl rfl ?_
      refine w_iald hx hb hK hW 3 0 (by decide) (n := 288) (g := ce1) rfl rfl (by omega) (by decide) dX3_merge_134 ?_
      refine lv_aload_n hx hb dX3_merge_135 rfl (lv_at hl 0 rfl) ?_
      refine w_getf (ci := 0) (v := .ref (a 3)) (C := RX3) (T := TX3) (N := 9) hx hb hts in_X3 hown hK hW 0 (by decide) rfl rfl 3 (by decide) (hts _ q798) (fun _ h9 => h9) rfl dX3_merge_136 ?_
      refine lv_bipush (v := iI 72) hx hb dX3_merge_139 (by rfl) ?_
      refine lv_iload_n hx hb dX3_merge_141 rfl (lv_at hl 2 rfl) ?_
      refine z_imul hx hb dX3_merge_142 ?_
      refine lv_iload hx hb dX3_merge_143 (lv_at hl 4 rfl) ?_
      refine z_iadd hx hb dX3_merge_145 ?_
      refine w_iald hx hb hK hW 3 0 (by decide) (n := 288) (g := ce1) rfl rfl (by omega) (by decide) dX3_merge_146 ?_
      refine z_iadd hx hb dX3_merge_147 ?_
      refine w_iast hx hb hK hW hJ hS 3 0 (by decide) (n := 288) (g := ce1) rfl rfl (by omega) (by decide) (mct_3 _ _ _ _ _ _ _ _ _ _ _ _) dX3_merge_148 (fun H locs hW hS hz => ?_)
      have hW : RW D clz mL a (mct a kc 0 (mAdS 64 st ot cn 64) tt (zu ce1 ((72 * st) + k) ((ce1 ((72 * st) + k)) + (ce1 ((72 * ot) + k)))) co it we tk fv) H := hW
      refine lv_iinc (v := iI (k + 1)) (lv' := [(4, .int (iI (k + 1))), (0, .ref (a 0)), (1, .int (iI st)), (2, .int (iI ot)), (3, .int (iI 1))]) hx hb dX3_merge_149 hl (k := 4) rfl (iI_add _ _) (by decide) rfl (fun ls hl => ?_)
      refine lv_goto (tgt := 115) hx hb dX3_merge_152 (by decide) ?_
      exact ih_115 ((k + 1), (zu ce1 ((72 * st) + k) ((ce1 ((72 * st) + k)) + (ce1 ((72 * ot) + k))))) _ _ (by show (0 ≤ (k + 1) ∧ (k + 1) ≤ 72) ∧ ((zu ce1 ((72 * st) + k) ((ce1 ((72 * st) + k)) + (ce1 ((72 * ot) + k)))) = mAdS 72 st ot ce (k + 1).toNat); exact ⟨by omega, by rw [mAdS_s (by omega), ← k2]⟩) hW hS (by show (72 - (k + 1)).toNat < (72 - k).toNat; omega) ls (lv_sub hl [1, 2, 3, 4, 0] rfl)
  · refine lv_aload_n hx hb dX3_merge_79 rfl (lv_at hl 0 rfl) ?_
    refine w_getf (ci := 0) (v := .ref (a 1)) (C := RX3) (T := TX3) (N := 9) hx hb hts in_X3 hown hK hW 0 (by decide) rfl rfl 1 (by decide) (hts _ q796) (fun _ h9 => h9) rfl dX3_merge_80 ?_
    refine lv_bipush (v := iI 64) hx hb dX3_merge_83 (by rfl) ?_
    refine lv_iload_n hx hb dX3_merge_85 rfl (lv_at hl 1 rfl) ?_
    refine z_imul hx hb dX3_merge_86 ?_
    refine lv_iload hx hb dX3_merge_87 (lv_at hl 4 rfl) ?_
    refine z_iadd hx hb dX3_merge_89 ?_
    refine lv_dup2_11 hx hb dX3_merge_90 rfl rfl ?_
    refine w_iald hx hb hK hW 1 0 (by decide) (n := 256) (g := cn1) rfl rfl (by omega) (by decide) dX3_merge_91 ?_
    refine lv_aload_n hx hb dX3_merge_92 rfl (lv_at hl 0 rfl) ?_
    refine w_getf (ci := 0) (v := .ref (a 1)) (C := RX3) (T := TX3) (N := 9) hx hb hts in_X3 hown hK hW 0 (by decide) rfl rfl 1 (by decide) (hts _ q796) (fun _ h9 => h9) rfl dX3_merge_93 ?_
    refine lv_bipush (v := iI 64) hx hb dX3_merge_96 (by rfl) ?_
    refine lv_iload_n hx hb dX3_merge_98 rfl (lv_at hl 2 rfl) ?_
    refine z_imul hx hb dX3_merge_99 ?_
    refine lv_iload hx hb dX3_merge_100 (lv_at hl 4 rfl) ?_
    refine z_iadd hx hb dX3_merge_102 ?_
    refine w_iald hx hb hK hW 1 0 (by decide) (n := 256) (g := cn1) rfl rfl (by omega) (by decide) dX3_merge_103 ?_
    refine z_iadd hx hb dX3_merge_104 ?_
    refine w_iast hx hb hK hW hJ hS 1 0 (by decide) (n := 256) (g := cn1) rfl rfl (by omega) (by decide) (mct_1 _ _ _ _ _ _ _ _ _ _ _ _) dX3_merge_105 (fun H locs hW hS hz => ?_)
    have hW : RW D clz mL a (mct a kc 0 (zu cn1 ((64 * st) + k) ((cn1 ((64 * st) + k)) + (cn1 ((64 * ot) + k)))) tt ce co it we tk fv) H := hW
    refine lv_iinc (v := iI (k + 1)) (lv' := [(4, .int (iI (k + 1))), (0, .ref (a 0)), (1, .int (iI st)), (2, .int (iI ot)), (3, .int (iI 1))]) hx hb dX3_merge_106 hl (k := 4) rfl (iI_add _ _) (by decide) rfl (fun ls hl => ?_)
    refine lv_goto (tgt := 72) hx hb dX3_merge_109 (by decide) ?_
    exact ih_72 ((k + 1), (zu cn1 ((64 * st) + k) ((cn1 ((64 * st) + k)) + (cn1 ((64 * ot) + k))))) _ _ (by show (0 ≤ (k + 1) ∧ (k + 1) ≤ 64) ∧ ((zu cn1 ((64 * st) + k) ((cn1 ((64 * st) + k)) + (cn1 ((64 * ot) + k)))) = mAdS 64 st ot cn (k + 1).toNat); exact ⟨by omega, by rw [mAdS_s (by omega), ← g2]⟩) hW hS (by show (64 - (k + 1)).toNat < (64 - k).toNat; omega) ls (lv_sub hl [1, 2, 3, 4, 0] rfl)
set_option maxHeartbeats 4000000 in
set_option maxRecDepth 100000 in
theorem kX3_merge_no (l : Launch) (D : va_G) (a : Nat → Nat) (kc : Nat → ClassId) (th : Int) (cn tt ce co it we tk fv : Int → Int) (sz : Nat) (st ot : Int) (h_st : -2147483648 ≤ st ∧ st ≤ 2147483647) (h_ot : -2147483648 ≤ ot ∧ ot ≤ 2147483647) (hcd : ¬ cdMg st ot (tt st) (tt ot) = 0) (htt : ∀ i9 : Int, 0 ≤ tt i9 ∧ tt i9 ≤ 1000000) : Met l yX3_merge (ws_ yX3_merge cX3_merge 5 (some .int)) ({ frames := 17, cells := 0, slots := 0, locals := 360 }) (va_Pc [.ref (a 0), .int (iI st), .int (iI ot)] (mW D a kc th cn tt ce co it we tk fv sz)) (va_Qi (fun (r : Int32) (_ : Unit) => r = iI 0) (fun (_ : Unit) t8 => RW D clz mL a (mct a kc (cdMg st ot (tt st) (tt ot)) cn tt ce co it we tk fv) t8.heap) (RA mL a sz)) 0 0 (RA mL a sz) := by
  refine Met.ofW (cc := cX3_merge) (maxL := 5) (ret := (some .int)) (by decide) rfl ?_
  intro p e s m args below meth c s₁ B hml hv
  obtain ⟨rfl, hsz, hW, hK, hJ0⟩ := hv
  subst hsz
  have hJ := hJ0.self (sz := s.heap.size)
  have hS : va_S (RA mL a s.heap.size) s.heap s.heap [] := va_S.rf
  have hx := B.exec
  have hb := B.bytes
  have hr := B.returns
  have hlk := B.notSynchronized
  have hts := atoms_spec (ws := (ws_ yX3_merge cX3_merge 5 (some .int))) B.pre
  have hts : ∀ w ∈ lw_all, w.before _ s = true := fun w h => hts w (List.mem_cons_of_mem _ h)
  have hown : s.vm.findClass RX3 = some m.cls := findClass_of_methodNamed B.named
  have hl := lv_entry ([.ref (a 0), .int (iI st), .int (iI ot)]) (n := 5) (Nat.le_of_ble_eq_true rfl)
  rw [lg_entry_eq]
  generalize (lg_sl ([.ref (a 0), .int (iI st), .int (iI ot)]) ++ List.replicate (5 - (lg_sl ([.ref (a 0), .int (iI st), .int (iI ot)])).length) Slot.unset).toArray = ls at hl ⊢
  have hl : lv_has ls 5 [(0, .ref (a 0)), (1, .int (iI st)), (2, .int (iI ot))] := hl
  refine lv_iload_n hx hb dX3_merge_0 rfl (lv_at hl 1 rfl) ?_
  refine z_cs (W.runS (As := [.int (iI st)]) (rest := []) ⟨hx, hb, hml, hown, hts⟩ (kX3_isStream l st (by omega)) (va_cwS 1 hts (lw_S q831 q832 q33 q833) rfl rfl rfl (by decide +kernel) ⟨Nat.le_of_ble_eq_true rfl, Nat.le_of_ble_eq_true rfl⟩) ⟨fun _ _ _ _ q => q, fun _ _ _ => ⟨rfl, trivial⟩⟩ rfl rfl hl.1 rfl (lv_room (Nat.le_of_ble_eq_true rfl)) dX3_merge_1 ⟨Nat.le_of_ble_eq_true rfl, Nat.le_of_ble_eq_true rfl⟩) ?_
  refine z_if_eq (tgt := 18) hx hb dX3_merge_4 (by decide) (zb_r _) (fun c_1 => ?_) (fun c_1 => ?_)
  · have c_1 := zb_0 c_1
    refine lv_iconst (v := iI 0) hx hb dX3_merge_18 (by rfl) ?_
    refine lv_istore_n (lv' := [(3, .int (iI 0)), (0, .ref (a 0)), (1, .int (iI st)), (2, .int (iI ot))]) hx hb dX3_merge_19 rfl hl (by decide) rfl (fun ls hl => ?_)
    refine lv_aload_n hx hb dX3_merge_20 rfl (lv_at hl 1 rfl) ?_
    refine lv_iload_n hx hb dX3_merge_21 rfl (lv_at hl 0 rfl) ?_
    refine z_if_ne (tgt := 29) hx hb dX3_merge_22 (by decide) (by decide) (fun h9 => absurd h9 (by decide)) (fun _ => ?_)
    refine lv_iconst (v := iI 1) hx hb dX3_merge_25 (by rfl) ?_
    refine lv_goto (tgt := 61) hx hb dX3_merge_26 (by decide) ?_
    refine va_calli (va_runV (As := [.int (iI 1)]) (rest := []) ⟨hx, hb, hml, hown, hts⟩ (kX3_holds l D a kc th cn tt ce co it we tk fv _ 1 (by omega)) (cwV 1 hts (lw_V q838 q840 qs11 q33 q841) rfl rfl rfl (by decide +kernel) ⟨Nat.le_of_ble_eq_true rfl, Nat.le_of_ble_eq_true rfl⟩) ⟨mW_blind, w_recv hK hW 0 (by decide) rfl rfl, mW_pre hW hK hJ.any⟩ rfl rfl hl.1 rfl (lv_room (Nat.le_of_ble_eq_true rfl)) dX3_merge_61 ⟨Nat.le_of_ble_eq_true rfl, Nat.le_of_ble_eq_true rfl⟩) hS (fun q _ h => RA.mono hS.1 q h) (RA.mono hS.1) (fun r9 u9 t9 H locs ht9 hvm9 hr9 hB9 hz9 hk9 hS => ?_)
    subst hr9
    have hW : RW D clz mL a (mct a kc 1 cn tt ce co it we tk fv) H := by rw [← ht9]; exact hB9
    refine z_as 0 (by decide) ?_
    refine z_if_ne (tgt := 69) hx hb dX3_merge_64 (by decide) (by decide) (fun h9 => absurd h9 (by decide)) (fun _ => ?_)
    refine lv_iconst (v := iI 0) hx hb dX3_merge_67 (by rfl) ?_
    have hz9 : cdMg st ot (tt st) (tt ot) = 1 := by unfold cdMg; (repeat' split) <;> omega
    rw [hz9]
    exact z_retW hx hb hr hlk hW hS (rfl) dX3_merge_68
  · have c_1 := zb_1 c_1
    refine lv_iload_n hx hb dX3_merge_7 rfl (lv_at hl 2 rfl) ?_
    refine z_cs (W.runS (As := [.int (iI ot)]) (rest := []) ⟨hx, hb, hml, hown, hts⟩ (kX3_isStream l ot (by omega)) (va_cwS 1 hts (lw_S q831 q832 q33 q833) rfl rfl rfl (by decide +kernel) ⟨Nat.le_of_ble_eq_true rfl, Nat.le_of_ble_eq_true rfl⟩) ⟨fun _ _ _ _ q => q, fun _ _ _ => ⟨rfl, trivial⟩⟩ rfl rfl hl.1 rfl (lv_room (Nat.le_of_ble_eq_true rfl)) dX3_merge_8 ⟨Nat.le_of_ble_eq_true rfl, Nat.le_of_ble_eq_true rfl⟩) ?_
    refine z_if_eq (tgt := 18) hx hb dX3_merge_11 (by decide) (zb_r _) (fun c_4 => ?_) (fun c_4 => ?_)
    · have c_4 := zb_0 c_4
      refine lv_iconst (v := iI 0) hx hb dX3_merge_18 (by rfl) ?_
      refine lv_istore_n (lv' := [(3, .int (iI 0)), (0, .ref (a 0)), (1, .int (iI st)), (2, .int (iI ot))]) hx hb dX3_merge_19 rfl hl (by decide) rfl (fun ls hl => ?_)
      refine lv_aload_n hx hb dX3_merge_20 rfl (lv_at hl 1 rfl) ?_
      refine lv_iload_n hx hb dX3_merge_21 rfl (lv_at hl 0 rfl) ?_
      refine z_if_ne (tgt := 29) hx hb dX3_merge_22 (by decide) (by decide) (fun h9 => absurd h9 (by decide)) (fun _ => ?_)
      refine lv_iconst (v := iI 1) hx hb dX3_merge_25 (by rfl) ?_
      refine lv_goto (tgt := 61) hx hb dX3_merge_26 (by decide) ?_
      refine va_calli (va_runV (As := [.int (iI 1)]) (rest := []) ⟨hx, hb, hml, hown, hts⟩ (kX3_holds l D a kc th cn tt ce co it we tk fv _ 1 (by omega)) (cwV 1 hts (lw_V q838 q840 qs11 q33 q841) rfl rfl rfl (by decide +kernel) ⟨Nat.le_of_ble_eq_true rfl, Nat.le_of_ble_eq_true rfl⟩) ⟨mW_blind, w_recv hK hW 0 (by decide) rfl rfl, mW_pre hW hK hJ.any⟩ rfl rfl hl.1 rfl (lv_room (Nat.le_of_ble_eq_true rfl)) dX3_merge_61 ⟨Nat.le_of_ble_eq_true rfl, Nat.le_of_ble_eq_true rfl⟩) hS (fun q _ h => RA.mono hS.1 q h) (RA.mono hS.1) (fun r9 u9 t9 H locs ht9 hvm9 hr9 hB9 hz9 hk9 hS => ?_)
      subst hr9
      have hW : RW D clz mL a (mct a kc 1 cn tt ce co it we tk fv) H := by rw [← ht9]; exact hB9
      refine z_as 0 (by decide) ?_
      refine z_if_ne (tgt := 69) hx hb dX3_merge_64 (by decide) (by decide) (fun h9 => absurd h9 (by decide)) (fun _ => ?_)
      refine lv_iconst (v := iI 0) hx hb dX3_merge_67 (by rfl) ?_
      have hz9 : cdMg st ot (tt st) (tt ot) = 1 := by unfold cdMg; (repeat' split) <;> omega
      rw [hz9]
      exact z_retW hx hb hr hlk hW hS (rfl) dX3_merge_68
    · have c_4 := zb_1 c_4
      refine lv_iconst (v := iI 1) hx hb dX3_merge_14 (by rfl) ?_
      refine lv_goto (tgt := 19) hx hb dX3_merge_15 (by decide) ?_
      refine lv_istore_n (lv' := [(3, .int (iI 1)), (0, .ref (a 0)), (1, .int (iI st)), (2, .int (iI ot))]) hx hb dX3_merge_19 rfl hl (by decide) rfl (fun ls hl => ?_)
      refine lv_aload_n hx hb dX3_merge_20 rfl (lv_at hl 1 rfl) ?_
      refine lv_iload_n hx hb dX3_merge_21 rfl (lv_at hl 0 rfl) ?_
      refine z_if_ne (tgt := 29) hx hb dX3_merge_22 (by decide) (by decide) (fun _ => ?_) (fun h9 => absurd h9 (by decide))
      refine lv_iload_n hx hb dX3_merge_29 rfl (lv_at hl 2 rfl) ?_
      refine lv_iload_n hx hb dX3_merge_30 rfl (lv_at hl 3 rfl) ?_
      refine z_icmp_ne (tgt := 38) hx hb dX3_merge_31 (by decide) (by omega) (by omega) (fun c_8 => ?_) (fun c_8 => ?_)
      · have hts9 := htt st
        have hts8 := htt ot
        refine lv_aload_n hx hb dX3_merge_38 rfl (lv_at hl 1 rfl) ?_
        refine w_getf (ci := 0) (v := .ref (a 2)) (C := RX3) (T := TX3) (N := 9) hx hb hts in_X3 hown hK hW 0 (by decide) rfl rfl 2 (by decide) (hts _ q797) (fun _ h9 => h9) rfl dX3_merge_39 ?_
        refine lv_iload_n hx hb dX3_merge_42 rfl (lv_at hl 2 rfl) ?_
        refine w_iald hx hb hK hW 2 0 (by decide) (n := 4) (g := tt) rfl rfl (by omega) (by decide) dX3_merge_43 ?_
        refine lv_aload_n hx hb dX3_merge_44 rfl (lv_at hl 1 rfl) ?_
        refine w_getf (ci := 0) (v := .ref (a 2)) (C := RX3) (T := TX3) (N := 9) hx hb hts in_X3 hown hK hW 0 (by decide) rfl rfl 2 (by decide) (hts _ q797) (fun _ h9 => h9) rfl dX3_merge_45 ?_
        refine lv_iload_n hx hb dX3_merge_48 rfl (lv_at hl 3 rfl) ?_
        refine w_iald hx hb hK hW 2 0 (by decide) (n := 4) (g := tt) rfl rfl (by omega) (by decide) dX3_merge_49 ?_
        refine z_iadd hx hb dX3_merge_50 ?_
        refine lv_ldc (v := iI 1000000) hx hb hown (hts _ q837) dX3_merge_51 ?_
        refine z_icmp_le (tgt := 60) hx hb dX3_merge_53 (by decide) (by omega) (by decide) (fun c_9 => absurd c_9 (fun h9 => hcd (by unfold cdMg; (repeat' split) <;> omega))) (fun c_9 => ?_)
        refine lv_iconst (v := iI 3) hx hb dX3_merge_56 (by rfl) ?_
        refine lv_goto (tgt := 61) hx hb dX3_merge_57 (by decide) ?_
        refine va_calli (va_runV (As := [.int (iI 3)]) (rest := []) ⟨hx, hb, hml, hown, hts⟩ (kX3_holds l D a kc th cn tt ce co it we tk fv _ 3 (by omega)) (cwV 1 hts (lw_V q838 q840 qs11 q33 q841) rfl rfl rfl (by decide +kernel) ⟨Nat.le_of_ble_eq_true rfl, Nat.le_of_ble_eq_true rfl⟩) ⟨mW_blind, w_recv hK hW 0 (by decide) rfl rfl, mW_pre hW hK hJ.any⟩ rfl rfl hl.1 rfl (lv_room (Nat.le_of_ble_eq_true rfl)) dX3_merge_61 ⟨Nat.le_of_ble_eq_true rfl, Nat.le_of_ble_eq_true rfl⟩) hS (fun q _ h => RA.mono hS.1 q h) (RA.mono hS.1) (fun r9 u9 t9 H locs ht9 hvm9 hr9 hB9 hz9 hk9 hS => ?_)
        subst hr9
        have hW : RW D clz mL a (mct a kc 3 cn tt ce co it we tk fv) H := by rw [← ht9]; exact hB9
        refine z_as 0 (by decide) ?_
        refine z_if_ne (tgt := 69) hx hb dX3_merge_64 (by decide) (by decide) (fun h9 => absurd h9 (by decide)) (fun _ => ?_)
        refine lv_iconst (v := iI 0) hx hb dX3_merge_67 (by rfl) ?_
        have hz9 : cdMg st ot (tt st) (tt ot) = 3 := by unfold cdMg; (repeat' split) <;> omega
        rw [hz9]
        exact z_retW hx hb hr hlk hW hS (rfl) dX3_merge_68
      · refine lv_iconst (v := iI 2) hx hb dX3_merge_34 (by rfl) ?_
        refine lv_goto (tgt := 61) hx hb dX3_merge_35 (by decide) ?_
        refine va_calli (va_runV (As := [.int (iI 2)]) (rest := []) ⟨hx, hb, hml, hown, hts⟩ (kX3_holds l D a kc th cn tt ce co it we tk fv _ 2 (by omega)) (cwV 1 hts (lw_V q838 q840 qs11 q33 q841) rfl rfl rfl (by decide +kernel) ⟨Nat.le_of_ble_eq_true rfl, Nat.le_of_ble_eq_true rfl⟩) ⟨mW_blind, w_recv hK hW 0 (by decide) rfl rfl, mW_pre hW hK hJ.any⟩ rfl rfl hl.1 rfl (lv_room (Nat.le_of_ble_eq_true rfl)) dX3_merge_61 ⟨Nat.le_of_ble_eq_true rfl, Nat.le_of_ble_eq_true rfl⟩) hS (fun q _ h => RA.mono hS.1 q h) (RA.mono hS.1) (fun r9 u9 t9 H locs ht9 hvm9 hr9 hB9 hz9 hk9 hS => ?_)
        subst hr9
        have hW : RW D clz mL a (mct a kc 2 cn tt ce co it we tk fv) H := by rw [← ht9]; exact hB9
        refine z_as 0 (by decide) ?_
        refine z_if_ne (tgt := 69) hx hb dX3_merge_64 (by decide) (by decide) (fun h9 => absurd h9 (by decide)) (fun _ => ?_)
        refine lv_iconst (v := iI 0) hx hb dX3_merge_67 (by rfl) ?_
        have hz9 : cdMg st ot (tt st) (tt ot) = 2 := by unfold cdMg; (repeat' split) <;> omega
        rw [hz9]
        exact z_retW hx hb hr hlk hW hS (rfl) dX3_merge_68
set_option maxHeartbeats 4000000 in
set_option maxRecDepth 100000 in
theorem kX3_clear_ok (l : Launch) (D : va_G) (a : Nat → Nat) (kc : Nat → ClassId) (th : Int) (cn tt ce co it we tk fv : Int → Int) (sz : Nat) (st : Int) (h_st : -2147483648 ≤ st ∧ st ≤ 2147483647) (hq : 0 ≤ st ∧ st < 4) : Met l yX3_clear (ws_ yX3_clear cX3_clear 4 (some .int)) ({ frames := 17, cells := 0, slots := 0, locals := 360 }) (va_Pc [.ref (a 0), .int (iI st)] (mW D a kc th cn tt ce co it we tk fv sz)) (va_Qi (fun (r : Int32) (_ : Unit) => r = iI (tt st)) (fun (_ : Unit) t8 => RW D clz mL a (mct a kc 0 (mClr 64 st cn 64) (zu tt st 0) (mClr 72 st ce 72) (zu co st 0) it we (zu tk st 0) fv) t8.heap) (RA mL a sz)) 0 0 (RA mL a sz) := by
  refine Met.ofW (cc := cX3_clear) (maxL := 4) (ret := (some .int)) (by decide) rfl ?_
  intro p e s m args below meth c s₁ B hml hv
  obtain ⟨rfl, hsz, hW, hK, hJ0⟩ := hv
  subst hsz
  have hJ := hJ0.self (sz := s.heap.size)
  have hS : va_S (RA mL a s.heap.size) s.heap s.heap [] := va_S.rf
  have hx := B.exec
  have hb := B.bytes
  have hr := B.returns
  have hlk := B.notSynchronized
  have hts := atoms_spec (ws := (ws_ yX3_clear cX3_clear 4 (some .int))) B.pre
  have hts : ∀ w ∈ lw_all, w.before _ s = true := fun w h => hts w (List.mem_cons_of_mem _ h)
  have hown : s.vm.findClass RX3 = some m.cls := findClass_of_methodNamed B.named
  have hl := lv_entry ([.ref (a 0), .int (iI st)]) (n := 4) (Nat.le_of_ble_eq_true rfl)
  rw [lg_entry_eq]
  generalize (lg_sl ([.ref (a 0), .int (iI st)]) ++ List.replicate (4 - (lg_sl ([.ref (a 0), .int (iI st)])).length) Slot.unset).toArray = ls at hl ⊢
  have hl : lv_has ls 4 [(0, .ref (a 0)), (1, .int (iI st))] := hl
  refine lv_aload_n hx hb dX3_clear_0 rfl (lv_at hl 0 rfl) ?_
  refine lv_iload_n hx hb dX3_clear_1 rfl (lv_at hl 1 rfl) ?_
  refine z_cs (W.runS (As := [.int (iI st)]) (rest := [.ref (a 0)]) ⟨hx, hb, hml, hown, hts⟩ (kX3_isStream l st (by omega)) (va_cwS 1 hts (lw_S q831 q832 q33 q833) rfl rfl rfl (by decide +kernel) ⟨Nat.le_of_ble_eq_true rfl, Nat.le_of_ble_eq_true rfl⟩) ⟨fun _ _ _ _ q => q, fun _ _ _ => ⟨rfl, trivial⟩⟩ rfl rfl hl.1 rfl (lv_room (Nat.le_of_ble_eq_true rfl)) dX3_clear_2 ⟨Nat.le_of_ble_eq_true rfl, Nat.le_of_ble_eq_true rfl⟩) ?_
  refine z_if_eq (tgt := 12) hx hb dX3_clear_5 (by decide) (zb_r _) (fun c_1 => absurd c_1 (zb_n1 (by omega))) (fun c_1 => ?_)
  refine lv_iconst (v := iI 0) hx hb dX3_clear_8 (by rfl) ?_
  refine lv_goto (tgt := 13) hx hb dX3_clear_9 (by decide) ?_
  refine va_calli (va_runV (As := [.int (iI 0)]) (rest := []) ⟨hx, hb, hml, hown, hts⟩ (kX3_holds l D a kc th cn tt ce co it we tk fv _ 0 (by omega)) (cwV 1 hts (lw_V q838 q840 qs11 q33 q841) rfl rfl rfl (by decide +kernel) ⟨Nat.le_of_ble_eq_true rfl, Nat.le_of_ble_eq_true rfl⟩) ⟨mW_blind, w_recv hK hW 0 (by decide) rfl rfl, mW_pre hW hK hJ.any⟩ rfl rfl hl.1 rfl (lv_room (Nat.le_of_ble_eq_true rfl)) dX3_clear_13 ⟨Nat.le_of_ble_eq_true rfl, Nat.le_of_ble_eq_true rfl⟩) hS (fun q _ h => RA.mono hS.1 q h) (RA.mono hS.1) (fun r9 u9 t9 H locs ht9 hvm9 hr9 hB9 hz9 hk9 hS => ?_)
  subst hr9
  have hW : RW D clz mL a (mct a kc 0 cn tt ce co it we tk fv) H := by rw [← ht9]; exact hB9
  refine z_as 1 (by decide) ?_
  refine z_if_ne (tgt := 21) hx hb dX3_clear_16 (by decide) (by decide) (fun _ => ?_) (fun h9 => absurd h9 (by decide))
  refine lv_aload_n hx hb dX3_clear_21 rfl (lv_at hl 0 rfl) ?_
  refine w_getf (ci := 0) (v := .ref (a 2)) (C := RX3) (T := TX3) (N := 9) hx hb hts in_X3 hown hK hW 0 (by decide) rfl rfl 2 (by decide) (hts _ q797) (fun _ h9 => h9) rfl dX3_clear_22 ?_
  refine lv_iload_n hx hb dX3_clear_25 rfl (lv_at hl 1 rfl) ?_
  refine w_iald hx hb hK hW 2 0 (by decide) (n := 4) (g := tt) rfl rfl (by omega) (by decide) dX3_clear_26 ?_
  refine lv_istore_n (lv' := [(2, .int (iI (tt st))), (0, .ref (a 0)), (1, .int (iI st))]) hx hb dX3_clear_27 rfl hl (by decide) rfl (fun ls hl => ?_)
  refine lv_iconst (v := iI 0) hx hb dX3_clear_28 (by rfl) ?_
  refine lv_istore_n (lv' := [(3, .int (iI 0)), (2, .int (iI (tt st))), (0, .ref (a 0)), (1, .int (iI st))]) hx hb dX3_clear_29 rfl hl (by decide) rfl (fun ls hl => ?_)
  refine z_loopW (σ := Int × (Int → Int)) (fun x9 => [(0, .ref (a 0)), (1, .int (iI st)), (2, .int (iI (tt st))), (3, .int (iI x9.1))]) (fun x9 => (0 ≤ x9.1 ∧ x9.1 ≤ 64) ∧ (x9.2 = mClr 64 st cn x9.1.toNat)) (fun x9 H9 => RW D clz mL a (mct a kc 0 x9.2 tt ce co it we tk fv) H9) (fun x9 => (64 - x9.1).toNat) ?_ (0, cn) (by show (0 ≤ (0 : Int) ∧ (0 : Int) ≤ 64) ∧ (cn = mClr 64 st cn (0 : Int).toNat); exact ⟨by omega, rfl⟩) hW hS (lv_sub hl [2, 3, 1, 0] rfl)
  rintro ⟨k, cn1⟩ H locs hI9 hW hS ih_30 ls hl
  have hI9 : (0 ≤ k ∧ k ≤ 64) ∧ (cn1 = mClr 64 st cn k.toNat) := hI9
  obtain ⟨g1, g2⟩ := hI9
  have hl : lv_has ls 4 [(0, .ref (a 0)), (1, .int (iI st)), (2, .int (iI (tt st))), (3, .int (iI k))] := hl
  have hW : RW D clz mL a (mct a kc 0 cn1 tt ce co it we tk fv) H := hW
  refine lv_iload_n hx hb dX3_clear_30 rfl (lv_at hl 3 rfl) ?_
  refine lv_bipush (v := iI 64) hx hb dX3_clear_31 (by rfl) ?_
  refine z_icmp_ge (tgt := 54) hx hb dX3_clear_33 (by decide) (by omega) (by decide) (fun c_3 => ?_) (fun c_3 => ?_)
  · have hk : k = 64 := by omega
    rw [hk] at g2
    have g3 : cn1 = mClr 64 st cn 64 := g2
    subst g3
    refine lv_iconst (v := iI 0) hx hb dX3_clear_54 (by rfl) ?_
    refine lv_istore_n (lv' := [(3, .int (iI 0)), (0, .ref (a 0)), (1, .int (iI st)), (2, .int (iI (tt st)))]) hx hb dX3_clear_55 rfl hl (by decide) rfl (fun ls hl => ?_)
    refine z_loopW (σ := Int × (Int → Int)) (fun x9 => [(0, .ref (a 0)), (1, .int (iI st)), (2, .int (iI (tt st))), (3, .int (iI x9.1))]) (fun x9 => (0 ≤ x9.1 ∧ x9.1 ≤ 72) ∧ (x9.2 = mClr 72 st ce x9.1.toNat)) (fun x9 H9 => RW D clz mL a (mct a kc 0 (mClr 64 st cn 64) tt x9.2 co it we tk fv) H9) (fun x9 => (72 - x9.1).toNat) ?_ (0, ce) (by show (0 ≤ (0 : Int) ∧ (0 : Int) ≤ 72) ∧ (ce = mClr 72 st ce (0 : Int).toNat); exact ⟨by omega, rfl⟩) hW hS (lv_sub hl [1, 2, 3, 0] rfl)
    rintro ⟨k, ce1⟩ H locs hI9 hW hS ih_56 ls hl
    have hI9 : (0 ≤ k ∧ k ≤ 72) ∧ (ce1 = mClr 72 st ce k.toNat) := hI9
    obtain ⟨k1, k2⟩ := hI9
    have hl : lv_has ls 4 [(0, .ref (a 0)), (1, .int (iI st)), (2, .int (iI (tt st))), (3, .int (iI k))] := hl
    have hW : RW D clz mL a (mct a kc 0 (mClr 64 st cn 64) tt ce1 co it we tk fv) H := hW
    refine lv_iload_n hx hb dX3_clear_56 rfl (lv_at hl 3 rfl) ?_
    refine lv_bipush (v := iI 72) hx hb dX3_clear_57 (by rfl) ?_
    refine z_icmp_ge (tgt := 80) hx hb dX3_clear_59 (by decide) (by omega) (by decide) (fun c_4 => ?_) (fun c_4 => ?_)
    · have hk2 : k = 72 := by omega
      rw [hk2] at k2
      have k3 : ce1 = mClr 72 st ce 72 := k2
      subst k3
      refine lv_aload_n hx hb dX3_clear_80 rfl (lv_at hl 0 rfl) ?_
      refine w_getf (ci := 0) (v := .ref (a 2)) (C := RX3) (T := TX3) (N := 9) hx hb hts in_X3 hown hK hW 0 (by decide) rfl rfl 2 (by decide) (hts _ q797) (fun _ h9 => h9) rfl dX3_clear_81 ?_
      refine lv_iload_n hx hb dX3_clear_84 rfl (lv_at hl 1 rfl) ?_
      refine lv_iconst (v := iI 0) hx hb dX3_clear_85 (by rfl) ?_
      refine w_iast hx hb hK hW hJ hS 2 0 (by decide) (n := 4) (g := tt) rfl rfl (by omega) (by decide) (mct_2 _ _ _ _ _ _ _ _ _ _ _ _) dX3_clear_86 (fun H locs hW hS hz => ?_)
      have hW : RW D clz mL a (mct a kc 0 (mClr 64 st cn 64) (zu tt st 0) (mClr 72 st ce 72) co it we tk fv) H := hW
      refine lv_aload_n hx hb dX3_clear_87 rfl (lv_at hl 0 rfl) ?_
      refine w_getf (ci := 0) (v := .ref (a 4)) (C := RX3) (T := TX3) (N := 9) hx hb hts in_X3 hown hK hW 0 (by decide) rfl rfl 4 (by decide) (hts _ q799) (fun _ h9 => h9) rfl dX3_clear_88 ?_
      refine lv_iload_n hx hb dX3_clear_91 rfl (lv_at hl 1 rfl) ?_
      refine lv_iconst (v := iI 0) hx hb dX3_clear_92 (by rfl) ?_
      refine w_iast hx hb hK hW hJ hS 4 0 (by decide) (n := 4) (g := co) rfl rfl (by omega) (by decide) (mct_4 _ _ _ _ _ _ _ _ _ _ _ _) dX3_clear_93 (fun H locs hW hS hz => ?_)
      have hW : RW D clz mL a (mct a kc 0 (mClr 64 st cn 64) (zu tt st 0) (mClr 72 st ce 72) (zu co st 0) it we tk fv) H := hW
      refine lv_aload_n hx hb dX3_clear_94 rfl (lv_at hl 0 rfl) ?_
      refine w_getf (ci := 0) (v := .ref (a 7)) (C := RX3) (T := TX3) (N := 9) hx hb hts in_X3 hown hK hW 0 (by decide) rfl rfl 7 (by decide) (hts _ q802) (fun _ h9 => h9) rfl dX3_clear_95 ?_
      refine lv_iload_n hx hb dX3_clear_98 rfl (lv_at hl 1 rfl) ?_
      refine lv_iconst (v := iI 0) hx hb dX3_clear_99 (by rfl) ?_
      refine w_iast hx hb hK hW hJ hS 7 0 (by decide) (n := 4) (g := tk) rfl rfl (by omega) (by decide) (mct_7 _ _ _ _ _ _ _ _ _ _ _ _) dX3_clear_100 (fun H locs hW hS hz => ?_)
      have hW : RW D clz mL a (mct a kc 0 (mClr 64 st cn 64) (zu tt st 0) (mClr 72 st ce 72) (zu co st 0) it we (zu tk st 0) fv) H := hW
      refine lv_iload_n hx hb dX3_clear_101 rfl (lv_at hl 2 rfl) ?_
      exact z_retW hx hb hr hlk hW hS (rfl) dX3_clear_102
    · refine lv_aload_n hx hb dX3_clear_62 rfl (lv_at hl 0 rfl) ?_
      refine w_getf (ci := 0) (v := .ref (a 3)) (C := RX3) (T := TX3) (N := 9) hx hb hts in_X3 hown hK hW 0 (by decide) rfl rfl 3 (by decide) (hts _ q798) (fun _ h9 => h9) rfl dX3_clear_63 ?_
      refine lv_bipush (v := iI 72) hx hb dX3_clear_66 (by rfl) ?_
      refine lv_iload_n hx hb dX3_clear_68 rfl (lv_at hl 1 rfl) ?_
      refine z_imul hx hb dX3_clear_69 ?_
      refine lv_iload_n hx hb dX3_clear_70 rfl (lv_at hl 3 rfl) ?_
      refine z_iadd hx hb dX3_clear_71 ?_
      refine lv_iconst (v := iI 0) hx hb dX3_clear_72 (by rfl) ?_
      refine w_iast hx hb hK hW hJ hS 3 0 (by decide) (n := 288) (g := ce1) rfl rfl (by omega) (by decide) (mct_3 _ _ _ _ _ _ _ _ _ _ _ _) dX3_clear_73 (fun H locs hW hS hz => ?_)
      have hW : RW D clz mL a (mct a kc 0 (mClr 64 st cn 64) tt (zu ce1 ((72 * st) + k) 0) co it we tk fv) H := hW
      refine lv_iinc (v := iI (k + 1)) (lv' := [(3, .int (iI (k + 1))), (0, .ref (a 0)), (1, .int (iI st)), (2, .int (iI (tt st)))]) hx hb dX3_clear_74 hl (k := 3) rfl (iI_add _ _) (by decide) rfl (fun ls hl => ?_)
      refine lv_goto (tgt := 56) hx hb dX3_clear_77 (by decide) ?_
      exact ih_56 ((k + 1), (zu ce1 ((72 * st) + k) 0)) _ _ (by show (0 ≤ (k + 1) ∧ (k + 1) ≤ 72) ∧ ((zu ce1 ((72 * st) + k) 0) = mClr 72 st ce (k + 1).toNat); exact ⟨by omega, by rw [mClr_s (by omega), ← k2]⟩) hW hS (by show (72 - (k + 1)).toNat < (72 - k).toNat; omega) ls (lv_sub hl [1, 2, 3, 0] rfl)
  · refine lv_aload_n hx hb dX3_clear_36 rfl (lv_at hl 0 rfl) ?_
    refine w_getf (ci := 0) (v := .ref (a 1)) (C := RX3) (T := TX3) (N := 9) hx hb hts in_X3 hown hK hW 0 (by decide) rfl rfl 1 (by decide) (hts _ q796) (fun _ h9 => h9) rfl dX3_clear_37 ?_
    refine lv_bipush (v := iI 64) hx hb dX3_clear_40 (by rfl) ?_
    refine lv_iload_n hx hb dX3_clear_42 rfl (lv_at hl 1 rfl) ?_
    refine z_imul hx hb dX3_clear_43 ?_
    refine lv_iload_n hx hb dX3_clear_44 rfl (lv_at hl 3 rfl) ?_
    refine z_iadd hx hb dX3_clear_45 ?_
    refine lv_iconst (v := iI 0) hx hb dX3_clear_46 (by rfl) ?_
    refine w_iast hx hb hK hW hJ hS 1 0 (by decide) (n := 256) (g := cn1) rfl rfl (by omega) (by decide) (mct_1 _ _ _ _ _ _ _ _ _ _ _ _) dX3_clear_47 (fun H locs hW hS hz => ?_)
    have hW : RW D clz mL a (mct a kc 0 (zu cn1 ((64 * st) + k) 0) tt ce co it we tk fv) H := hW
    refine lv_iinc (v := iI (k + 1)) (lv' := [(3, .int (iI (k + 1))), (0, .ref (a 0)), (1, .int (iI st)), (2, .int (iI (tt st)))]) hx hb dX3_clear_48 hl (k := 3) rfl (iI_add _ _) (by decide) rfl (fun ls hl => ?_)
    refine lv_goto (tgt := 30) hx hb dX3_clear_51 (by decide) ?_
    exact ih_30 ((k + 1), (zu cn1 ((64 * st) + k) 0)) _ _ (by show (0 ≤ (k + 1) ∧ (k + 1) ≤ 64) ∧ ((zu cn1 ((64 * st) + k) 0) = mClr 64 st cn (k + 1).toNat); exact ⟨by omega, by rw [mClr_s (by omega), ← g2]⟩) hW hS (by show (64 - (k + 1)).toNat < (64 - k).toNat; omega) ls (lv_sub hl [1, 2, 3, 0] rfl)
set_option maxHeartbeats 4000000 in
set_option maxRecDepth 100000 in
theorem kX3_clear_no (l : Launch) (D : va_G) (a : Nat → Nat) (kc : Nat → ClassId) (th : Int) (cn tt ce co it we tk fv : Int → Int) (sz : Nat) (st : Int) (h_st : -2147483648 ≤ st ∧ st ≤ 2147483647) (hq : ¬ (0 ≤ st ∧ st < 4)) : Met l yX3_clear (ws_ yX3_clear cX3_clear 4 (some .int)) ({ frames := 17, cells := 0, slots := 0, locals := 360 }) (va_Pc [.ref (a 0), .int (iI st)] (mW D a kc th cn tt ce co it we tk fv sz)) (va_Qi (fun (r : Int32) (_ : Unit) => r = iI 0) (fun (_ : Unit) t8 => RW D clz mL a (mct a kc 1 cn tt ce co it we tk fv) t8.heap) (RA mL a sz)) 0 0 (RA mL a sz) := by
  refine Met.ofW (cc := cX3_clear) (maxL := 4) (ret := (some .int)) (by decide) rfl ?_
  intro p e s m args below meth c s₁ B hml hv
  obtain ⟨rfl, hsz, hW, hK, hJ0⟩ := hv
  subst hsz
  have hJ := hJ0.self (sz := s.heap.size)
  have hS : va_S (RA mL a s.heap.size) s.heap s.heap [] := va_S.rf
  have hx := B.exec
  have hb := B.bytes
  have hr := B.returns
  have hlk := B.notSynchronized
  have hts := atoms_spec (ws := (ws_ yX3_clear cX3_clear 4 (some .int))) B.pre
  have hts : ∀ w ∈ lw_all, w.before _ s = true := fun w h => hts w (List.mem_cons_of_mem _ h)
  have hown : s.vm.findClass RX3 = some m.cls := findClass_of_methodNamed B.named
  have hl := lv_entry ([.ref (a 0), .int (iI st)]) (n := 4) (Nat.le_of_ble_eq_true rfl)
  rw [lg_entry_eq]
  generalize (lg_sl ([.ref (a 0), .int (iI st)]) ++ List.replicate (4 - (lg_sl ([.ref (a 0), .int (iI st)])).length) Slot.unset).toArray = ls at hl ⊢
  have hl : lv_has ls 4 [(0, .ref (a 0)), (1, .int (iI st))] := hl
  refine lv_aload_n hx hb dX3_clear_0 rfl (lv_at hl 0 rfl) ?_
  refine lv_iload_n hx hb dX3_clear_1 rfl (lv_at hl 1 rfl) ?_
  refine z_cs (W.runS (As := [.int (iI st)]) (rest := [.ref (a 0)]) ⟨hx, hb, hml, hown, hts⟩ (kX3_isStream l st (by omega)) (va_cwS 1 hts (lw_S q831 q832 q33 q833) rfl rfl rfl (by decide +kernel) ⟨Nat.le_of_ble_eq_true rfl, Nat.le_of_ble_eq_true rfl⟩) ⟨fun _ _ _ _ q => q, fun _ _ _ => ⟨rfl, trivial⟩⟩ rfl rfl hl.1 rfl (lv_room (Nat.le_of_ble_eq_true rfl)) dX3_clear_2 ⟨Nat.le_of_ble_eq_true rfl, Nat.le_of_ble_eq_true rfl⟩) ?_
  refine z_if_eq (tgt := 12) hx hb dX3_clear_5 (by decide) (zb_r _) (fun c_1 => ?_) (fun c_1 => absurd c_1 (zb_n0 (by omega)))
  refine lv_iconst (v := iI 1) hx hb dX3_clear_12 (by rfl) ?_
  refine va_calli (va_runV (As := [.int (iI 1)]) (rest := []) ⟨hx, hb, hml, hown, hts⟩ (kX3_holds l D a kc th cn tt ce co it we tk fv _ 1 (by omega)) (cwV 1 hts (lw_V q838 q840 qs11 q33 q841) rfl rfl rfl (by decide +kernel) ⟨Nat.le_of_ble_eq_true rfl, Nat.le_of_ble_eq_true rfl⟩) ⟨mW_blind, w_recv hK hW 0 (by decide) rfl rfl, mW_pre hW hK hJ.any⟩ rfl rfl hl.1 rfl (lv_room (Nat.le_of_ble_eq_true rfl)) dX3_clear_13 ⟨Nat.le_of_ble_eq_true rfl, Nat.le_of_ble_eq_true rfl⟩) hS (fun q _ h => RA.mono hS.1 q h) (RA.mono hS.1) (fun r9 u9 t9 H locs ht9 hvm9 hr9 hB9 hz9 hk9 hS => ?_)
  subst hr9
  have hW : RW D clz mL a (mct a kc 1 cn tt ce co it we tk fv) H := by rw [← ht9]; exact hB9
  refine z_as 0 (by decide) ?_
  refine z_if_ne (tgt := 21) hx hb dX3_clear_16 (by decide) (by decide) (fun h9 => absurd h9 (by decide)) (fun _ => ?_)
  refine lv_iconst (v := iI 0) hx hb dX3_clear_19 (by rfl) ?_
  exact z_retW hx hb hr hlk hW hS (rfl) dX3_clear_20
set_option maxHeartbeats 4000000 in
set_option maxRecDepth 100000 in
theorem kX3_share (l : Launch) (D : va_G) (a : Nat → Nat) (kc : Nat → ClassId) (th : Int) (cn tt ce co it we tk fv : Int → Int) (sz : Nat) (st i : Int) (h_st : -2147483648 ≤ st ∧ st ≤ 2147483647) (h_i : -2147483648 ≤ i ∧ i ≤ 2147483647) (hce : ∀ i9 : Int, 0 ≤ ce i9 ∧ ce i9 ≤ 2000000) (htt : ∀ i9 : Int, 0 ≤ tt i9 ∧ tt i9 ≤ 1000000) (hdd : ¬ tt st = 0 → vf_n64 (FP.ddiv (FP.i2d (iI (mEst cn ce st 0 i))) (FP.i2d (iI (tt st))))) : Met l yX3_share (ws_ yX3_share cX3_share 3 (some .double)) ({ frames := 17, cells := 0, slots := 0, locals := 360 }) (va_Pc [.ref (a 0), .int (iI st), .int (iI i)] (mW D a kc th cn tt ce co it we tk fv sz)) (va_Qd (fun (r : UInt64) (_ : Unit) => r = (if cdI st i = 0 ∧ ¬ tt st = 0 then FP.ddiv (FP.i2d (iI (mEst cn ce st 0 i))) (FP.i2d (iI (tt st))) else FP.dconst0)) (fun (_ : Unit) t8 => RW D clz mL a (mct a kc (cdI st i) cn tt ce co it we tk fv) t8.heap) (RA mL a sz)) 0 0 (RA mL a sz) := by
  refine Met.ofW (cc := cX3_share) (maxL := 3) (ret := (some .double)) (by decide) rfl ?_
  intro p e s m args below meth c s₁ B hml hv
  obtain ⟨rfl, hsz, hW, hK, hJ0⟩ := hv
  subst hsz
  have hJ := hJ0.self (sz := s.heap.size)
  have hS : va_S (RA mL a s.heap.size) s.heap s.heap [] := va_S.rf
  have hx := B.exec
  have hb := B.bytes
  have hr := B.returns
  have hlk := B.notSynchronized
  have hts := atoms_spec (ws := (ws_ yX3_share cX3_share 3 (some .double))) B.pre
  have hts : ∀ w ∈ lw_all, w.before _ s = true := fun w h => hts w (List.mem_cons_of_mem _ h)
  have hown : s.vm.findClass RX3 = some m.cls := findClass_of_methodNamed B.named
  have hl := lv_entry ([.ref (a 0), .int (iI st), .int (iI i)]) (n := 3) (Nat.le_of_ble_eq_true rfl)
  rw [lg_entry_eq]
  generalize (lg_sl ([.ref (a 0), .int (iI st), .int (iI i)]) ++ List.replicate (3 - (lg_sl ([.ref (a 0), .int (iI st), .int (iI i)])).length) Slot.unset).toArray = ls at hl ⊢
  have hl : lv_has ls 3 [(0, .ref (a 0)), (1, .int (iI st)), (2, .int (iI i))] := hl
  refine lv_aload_n hx hb dX3_share_0 rfl (lv_at hl 0 rfl) ?_
  refine lv_iload_n hx hb dX3_share_1 rfl (lv_at hl 1 rfl) ?_
  refine lv_iload_n hx hb dX3_share_2 rfl (lv_at hl 2 rfl) ?_
  refine va_calli (va_runV (As := [.int (iI st), .int (iI i)]) (rest := []) ⟨hx, hb, hml, hown, hts⟩ (kX3_isItem l D a kc th cn tt ce co it we tk fv _ st i (by omega) (by omega)) (cwV 2 hts (lw_V q906 q908 qs21 q33 q909) rfl rfl rfl (by decide +kernel) ⟨Nat.le_of_ble_eq_true rfl, Nat.le_of_ble_eq_true rfl⟩) ⟨mW_blind, w_recv hK hW 0 (by decide) rfl rfl, mW_pre hW hK hJ.any⟩ rfl rfl hl.1 rfl (lv_room (Nat.le_of_ble_eq_true rfl)) dX3_share_3 ⟨Nat.le_of_ble_eq_true rfl, Nat.le_of_ble_eq_true rfl⟩) hS (fun q _ h => RA.mono hS.1 q h) (RA.mono hS.1) (fun r9 u9 t9 H locs ht9 hvm9 hr9 hB9 hz9 hk9 hS => ?_)
  subst hr9
  have hW : RW D clz mL a (mct a kc (cdI st i) cn tt ce co it we tk fv) H := by rw [← ht9]; exact hB9
  refine z_if_eq (tgt := 18) hx hb dX3_share_6 (by decide) (zb_r _) (fun c6 => ?_) (fun c6 => ?_)
  · have c6 := zb_0 c6
    refine lv_dconst0 hx hb dX3_share_18 ?_
    exact z_retWd hx hb hr hlk hW hS (by rw [if_neg (by omega)]) dX3_share_19
  · have c6 := zb_1 c6
    have hq := cdI_0 c6
    have hts9 := htt st
    refine lv_aload_n hx hb dX3_share_9 rfl (lv_at hl 0 rfl) ?_
    refine w_getf (ci := 0) (v := .ref (a 2)) (C := RX3) (T := TX3) (N := 9) hx hb hts in_X3 hown hK hW 0 (by decide) rfl rfl 2 (by decide) (hts _ q797) (fun _ h9 => h9) rfl dX3_share_10 ?_
    refine lv_iload_n hx hb dX3_share_13 rfl (lv_at hl 1 rfl) ?_
    refine w_iald hx hb hK hW 2 0 (by decide) (n := 4) (g := tt) rfl rfl (by omega) (by decide) dX3_share_14 ?_
    refine z_if_ne (tgt := 20) hx hb dX3_share_15 (by decide) (by omega) (fun c15 => ?_) (fun c15 => ?_)
    · refine lv_aload_n hx hb dX3_share_20 rfl (lv_at hl 0 rfl) ?_
      refine lv_iload_n hx hb dX3_share_21 rfl (lv_at hl 1 rfl) ?_
      refine lv_iconst (v := iI 0) hx hb dX3_share_22 (by rfl) ?_
      refine lv_iload_n hx hb dX3_share_23 rfl (lv_at hl 2 rfl) ?_
      refine z_cs (W.runV (As := [.int (iI st), .int (iI 0), .int (iI i)]) (rest := []) ⟨hx, hb, hml, hown, hts⟩ (kX3_estimateOf l D a kc (cdI st i) cn tt ce co it we tk fv st 0 i (by omega) (by omega) (by omega) (by show (i + 1) * 1 ≤ 64; omega) (by omega)) (cwV 3 hts (lw_V q846 q848 qs13 q33 q849) rfl rfl rfl (by decide +kernel) ⟨Nat.le_of_ble_eq_true rfl, Nat.le_of_ble_eq_true rfl⟩) ⟨mR_blind, w_recv hK hW 0 (by decide) rfl rfl, mR_pre hW hK⟩ rfl rfl hl.1 rfl (lv_room (Nat.le_of_ble_eq_true rfl)) dX3_share_24 ⟨Nat.le_of_ble_eq_true rfl, Nat.le_of_ble_eq_true rfl⟩) ?_
      refine lv_i2d hx hb dX3_share_27 ?_
      refine lv_aload_n hx hb dX3_share_28 rfl (lv_at hl 0 rfl) ?_
      refine w_getf (ci := 0) (v := .ref (a 2)) (C := RX3) (T := TX3) (N := 9) hx hb hts in_X3 hown hK hW 0 (by decide) rfl rfl 2 (by decide) (hts _ q797) (fun _ h9 => h9) rfl dX3_share_29 ?_
      refine lv_iload_n hx hb dX3_share_32 rfl (lv_at hl 1 rfl) ?_
      refine w_iald hx hb hK hW 2 0 (by decide) (n := 4) (g := tt) rfl rfl (by omega) (by decide) dX3_share_33 ?_
      refine lv_i2d hx hb dX3_share_34 ?_
      refine lv_ddiv hx hb dX3_share_35 (hdd c15) ?_
      exact z_retWd hx hb hr hlk hW hS (by rw [if_pos ⟨c6, c15⟩]) dX3_share_36
    · refine lv_dconst0 hx hb dX3_share_18 ?_
      exact z_retWd hx hb hr hlk hW hS (by rw [if_neg (by omega)]) dX3_share_19

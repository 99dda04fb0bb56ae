/-! CountcoteModel, second part: halves, careful cells -/
theorem mCol_b (row h : Int) : 0 ≤ mCol row h ∧ mCol row h ≤ 7 := by
  unfold mCol
  omega
theorem mSCol_b (row h : Int) : 0 ≤ mSCol row h ∧ mSCol row h ≤ 7 := by
  unfold mSCol
  omega
theorem mSgn_b (row h : Int) : mSgn row h = 1 ∨ mSgn row h = -1 := by
  unfold mSgn
  split
  · exact Or.inl rfl
  · exact Or.inr rfl
theorem pw_pos (x : Int) : 0 < (2 : Int) ^ x.toNat := Int.pow_pos (by decide)
theorem pw_le {x : Int} (h : 0 ≤ x ∧ x ≤ 6) : (2 : Int) ^ x.toNat ≤ 64 := by
  rcases (show x = 0 ∨ x = 1 ∨ x = 2 ∨ x = 3 ∨ x = 4 ∨ x = 5 ∨ x = 6 by omega) with rfl | rfl | rfl | rfl | rfl | rfl | rfl <;> decide
theorem pw_s {x : Int} (h : 0 ≤ x) : (2 : Int) ^ (x + 1).toNat = 2 * 2 ^ x.toNat := by
  rw [show (x + 1).toNat = x.toNat + 1 by omega, Int.pow_succ, Int.mul_comm]
theorem shl_ok {x y : Int} (h0 : 0 ≤ x) (h : x * 2 ^ y.toNat ≤ 1000000) : x.toNat * 2 ^ y.toNat < 4294967296 := by
  have h1 : ((x.toNat * 2 ^ y.toNat : Nat) : Int) = x * 2 ^ y.toNat := by
    rw [Int.natCast_mul, Int.toNat_of_nonneg h0, Int.natCast_pow]
    rfl
  omega
theorem half_ok {i x : Int} (hi : 0 ≤ i ∧ i ≤ 63) (h : 0 ≤ x ∧ x ≤ 6) : 0 ≤ i / 2 ^ x.toNat ∧ (i / 2 ^ x.toNat + 1) * 2 ^ x.toNat ≤ 64 ∧ i / 2 ^ x.toNat ≤ 63 := by
  rcases (show x = 0 ∨ x = 1 ∨ x = 2 ∨ x = 3 ∨ x = 4 ∨ x = 5 ∨ x = 6 by omega) with rfl | rfl | rfl | rfl | rfl | rfl | rfl
  · rw [show (2 : Int) ^ (0 : Int).toNat = 1 from rfl]; omega
  · rw [show (2 : Int) ^ (1 : Int).toNat = 2 from rfl]; omega
  · rw [show (2 : Int) ^ (2 : Int).toNat = 4 from rfl]; omega
  · rw [show (2 : Int) ^ (3 : Int).toNat = 8 from rfl]; omega
  · rw [show (2 : Int) ^ (4 : Int).toNat = 16 from rfl]; omega
  · rw [show (2 : Int) ^ (5 : Int).toNat = 32 from rfl]; omega
  · rw [show (2 : Int) ^ (6 : Int).toNat = 64 from rfl]; omega
def zmin (x y : Int) : Int := if x < y then x else y
theorem zmin_b {x y a b : Int} (h1 : a ≤ x ∧ x ≤ b) (h2 : a ≤ y ∧ y ≤ b) : a ≤ zmin x y ∧ zmin x y ≤ b := by
  unfold zmin
  split <;> omega
theorem zu_all {P : Int → Prop} {g : Int → Int} {k x : Int} (h : ∀ i, P (g i)) (hx : P x) : ∀ i, P (zu g k x i) := by
  intro i
  unfold zu
  split
  · exact hx
  · exact h i
/-- the estimate of a half -/
def mEst (cn ce : Int → Int) (st lev h : Int) : Int := if 3 ≤ lev then zsum cn (64 * st + h * 2 ^ lev.toNat) ((2 : Int) ^ lev.toNat).toNat else zmin (ce (72 * st + 24 * lev + 8 * 2 + mCol 2 h)) (zmin (ce (72 * st + 24 * lev + 8 * 1 + mCol 1 h)) (ce (72 * st + 24 * lev + 8 * 0 + mCol 0 h)))
theorem zsum_b {g : Int → Int} (h : ∀ i, 0 ≤ g i ∧ g i ≤ 1000000) (a : Int) : ∀ n : Nat, 0 ≤ zsum g a n ∧ zsum g a n ≤ 1000000 * n := by
  intro n
  induction n with
  | zero => exact ⟨Int.le_refl _, by simp [zsum]⟩
  | succ n ih =>
    have h1 := h (a + n)
    show 0 ≤ zsum g a n + g (a + n) ∧ zsum g a n + g (a + n) ≤ _
    omega
theorem mEst_b {cn ce : Int → Int} {B : Int} (hcn : ∀ i, 0 ≤ cn i ∧ cn i ≤ 1000000) (hce : ∀ i, 0 ≤ ce i ∧ ce i ≤ B) (hB : B ≤ 2000000) (st lev h : Int) (hlev : 0 ≤ lev ∧ lev ≤ 6) : 0 ≤ mEst cn ce st lev h ∧ mEst cn ce st lev h ≤ 64000000 := by
  unfold mEst
  split
  · have h1 := zsum_b hcn (64 * st + h * 2 ^ lev.toNat) ((2 : Int) ^ lev.toNat).toNat
    have h2 := pw_le hlev
    have h3 := pw_pos lev
    omega
  · have h1 := zmin_b (hce (72 * st + 24 * lev + 8 * 2 + mCol 2 h)) (zmin_b (hce (72 * st + 24 * lev + 8 * 1 + mCol 1 h)) (hce (72 * st + 24 * lev + 8 * 0 + mCol 0 h)))
    omega
theorem mEst_b3 {cn ce : Int → Int} {B : Int} (hce : ∀ i, 0 ≤ ce i ∧ ce i ≤ B) (st lev h : Int) (hlev : lev < 3) : 0 ≤ mEst cn ce st lev h ∧ mEst cn ce st lev h ≤ B := by
  unfold mEst
  rw [if_neg (by omega)]
  exact zmin_b (hce _) (zmin_b (hce _) (hce _))
set_option maxHeartbeats 4000000 in
set_option maxRecDepth 100000 in
theorem kX3_signedColumnOf (l : Launch) (row i : Int) (hv : 0 ≤ row ∧ row < 5) (hi : 0 ≤ i ∧ i ≤ 63) : Met l yX3_signedColumnOf (ws_ yX3_signedColumnOf cX3_signedColumnOf 4 (some .int)) ({ frames := 12, cells := 0, slots := 0, locals := 160 }) (va_Pc [.int (iI row), .int (iI i)] (fun _ => True)) (vp_Si (fun r => r = iI (mSCol row i))) 0 0 (fun _ => False) := by
  refine Met.ofW (cc := cX3_signedColumnOf) (maxL := 4) (ret := (some .int)) (by decide) rfl ?_
  intro p e s m args below meth c s₁ B hml hv
  obtain ⟨rfl, -⟩ := hv
  have hx := B.exec
  have hb := B.bytes
  have hr := B.returns
  have hlk := B.notSynchronized
  have hts := atoms_spec (ws := (ws_ yX3_signedColumnOf cX3_signedColumnOf 4 (some .int))) B.pre
  have hts : ∀ w ∈ lw_all, w.before _ s = true := fun w h => hts w (List.mem_cons_of_mem _ h)
  have hown : s.vm.findClass RX3 = some m.cls := findClass_of_methodNamed B.named
  have hl := lv_entry ([.int (iI row), .int (iI i)]) (n := 4) (Nat.le_of_ble_eq_true rfl)
  rw [lg_entry_eq]
  generalize (lg_sl ([.int (iI row), .int (iI i)]) ++ List.replicate (4 - (lg_sl ([.int (iI row), .int (iI i)])).length) Slot.unset).toArray = ls at hl ⊢
  have hl : lv_has ls 4 [(0, .int (iI row)), (1, .int (iI i))] := hl
  refine z_join (mC row) (pcM := 40) (ls := ls) (rest := []) ?_ (fun j_1 => ?_)
  · refine lv_istore_n (lv' := [(2, .int (iI (mC row))), (0, .int (iI row)), (1, .int (iI i))]) hx hb dX3_signedColumnOf_40 rfl hl (by decide) rfl (fun ls hl => ?_)
    refine z_join (mDd row) (pcM := 80) (ls := ls) (rest := []) ?_ (fun j_2 => ?_)
    · refine lv_istore_n (lv' := [(3, .int (iI (mDd row))), (2, .int (iI (mC row))), (0, .int (iI row)), (1, .int (iI i))]) hx hb dX3_signedColumnOf_80 rfl hl (by decide) rfl (fun ls hl => ?_)
      refine lv_iload_n hx hb dX3_signedColumnOf_81 rfl (lv_at hl 1 rfl) ?_
      refine lv_iload_n hx hb dX3_signedColumnOf_82 rfl (lv_at hl 3 rfl) ?_
      refine z_imul hx hb dX3_signedColumnOf_83 ?_
      refine lv_iload_n hx hb dX3_signedColumnOf_84 rfl (lv_at hl 0 rfl) ?_
      refine z_iadd hx hb dX3_signedColumnOf_85 ?_
      have hq := mSCol_r (row := row) hi
      refine lv_bipush (v := iI 67) hx hb dX3_signedColumnOf_86 (by rfl) ?_
      refine z_irem hx hb dX3_signedColumnOf_88 (by omega) (by decide) ?_
      refine lv_bipush (v := iI 8) hx hb dX3_signedColumnOf_89 (by rfl) ?_
      refine z_irem hx hb dX3_signedColumnOf_91 (by omega) (by decide) ?_
      exact z_retS hx hb hr hlk (rfl) dX3_signedColumnOf_92
    · refine lv_iload_n hx hb dX3_signedColumnOf_41 rfl (lv_at hl 1 rfl) ?_
      refine z_if_ne (tgt := 49) hx hb dX3_signedColumnOf_42 (by decide) (by omega) (fun c_3 => ?_) (fun c_3 => ?_)
      · refine lv_iload_n hx hb dX3_signedColumnOf_49 rfl (lv_at hl 1 rfl) ?_
        refine lv_iconst (v := iI 1) hx hb dX3_signedColumnOf_50 (by rfl) ?_
        refine z_icmp_ne (tgt := 59) hx hb dX3_signedColumnOf_51 (by decide) (by omega) (by decide) (fun c_4 => ?_) (fun c_4 => ?_)
        · refine lv_iload_n hx hb dX3_signedColumnOf_59 rfl (lv_at hl 1 rfl) ?_
          refine lv_iconst (v := iI 2) hx hb dX3_signedColumnOf_60 (by rfl) ?_
          refine z_icmp_ne (tgt := 68) hx hb dX3_signedColumnOf_61 (by decide) (by omega) (by decide) (fun c_5 => ?_) (fun c_5 => ?_)
          · refine lv_iload_n hx hb dX3_signedColumnOf_68 rfl (lv_at hl 1 rfl) ?_
            refine lv_iconst (v := iI 3) hx hb dX3_signedColumnOf_69 (by rfl) ?_
            refine z_icmp_ne (tgt := 78) hx hb dX3_signedColumnOf_70 (by decide) (by omega) (by decide) (fun c_6 => ?_) (fun c_6 => ?_)
            · refine lv_bipush (v := iI 17) hx hb dX3_signedColumnOf_78 (by rfl) ?_
              exact j_2 _ (by unfold mDd; repeat' split; all_goals omega)
            · refine lv_bipush (v := iI 40) hx hb dX3_signedColumnOf_73 (by rfl) ?_
              refine lv_goto (tgt := 80) hx hb dX3_signedColumnOf_75 (by decide) ?_
              exact j_2 _ (by unfold mDd; repeat' split; all_goals omega)
          · refine lv_iconst (v := iI 2) hx hb dX3_signedColumnOf_64 (by rfl) ?_
            refine lv_goto (tgt := 80) hx hb dX3_signedColumnOf_65 (by decide) ?_
            exact j_2 _ (by unfold mDd; repeat' split; all_goals omega)
        · refine lv_bipush (v := iI 8) hx hb dX3_signedColumnOf_54 (by rfl) ?_
          refine lv_goto (tgt := 80) hx hb dX3_signedColumnOf_56 (by decide) ?_
          exact j_2 _ (by unfold mDd; repeat' split; all_goals omega)
      · refine lv_iconst (v := iI 1) hx hb dX3_signedColumnOf_45 (by rfl) ?_
        refine lv_goto (tgt := 80) hx hb dX3_signedColumnOf_46 (by decide) ?_
        exact j_2 _ (by unfold mDd; repeat' split; all_goals omega)
  · refine lv_iload_n hx hb dX3_signedColumnOf_0 rfl (lv_at hl 0 rfl) ?_
    refine z_if_ne (tgt := 8) hx hb dX3_signedColumnOf_1 (by decide) (by omega) (fun c_7 => ?_) (fun c_7 => ?_)
    · refine lv_iload_n hx hb dX3_signedColumnOf_8 rfl (lv_at hl 0 rfl) ?_
      refine lv_iconst (v := iI 1) hx hb dX3_signedColumnOf_9 (by rfl) ?_
      refine z_icmp_ne (tgt := 18) hx hb dX3_signedColumnOf_10 (by decide) (by omega) (by decide) (fun c_8 => ?_) (fun c_8 => ?_)
      · refine lv_iload_n hx hb dX3_signedColumnOf_18 rfl (lv_at hl 0 rfl) ?_
        refine lv_iconst (v := iI 2) hx hb dX3_signedColumnOf_19 (by rfl) ?_
        refine z_icmp_ne (tgt := 28) hx hb dX3_signedColumnOf_20 (by decide) (by omega) (by decide) (fun c_9 => ?_) (fun c_9 => ?_)
        · refine lv_iload_n hx hb dX3_signedColumnOf_28 rfl (lv_at hl 0 rfl) ?_
          refine lv_iconst (v := iI 3) hx hb dX3_signedColumnOf_29 (by rfl) ?_
          refine z_icmp_ne (tgt := 38) hx hb dX3_signedColumnOf_30 (by decide) (by omega) (by decide) (fun c_10 => ?_) (fun c_10 => ?_)
          · refine lv_bipush (v := iI 33) hx hb dX3_signedColumnOf_38 (by rfl) ?_
            exact j_1 _ (by unfold mC; repeat' split; all_goals omega)
          · refine lv_bipush (v := iI 27) hx hb dX3_signedColumnOf_33 (by rfl) ?_
            refine lv_goto (tgt := 40) hx hb dX3_signedColumnOf_35 (by decide) ?_
            exact j_1 _ (by unfold mC; repeat' split; all_goals omega)
        · refine lv_bipush (v := iI 14) hx hb dX3_signedColumnOf_23 (by rfl) ?_
          refine lv_goto (tgt := 40) hx hb dX3_signedColumnOf_25 (by decide) ?_
          exact j_1 _ (by unfold mC; repeat' split; all_goals omega)
      · refine lv_bipush (v := iI 9) hx hb dX3_signedColumnOf_13 (by rfl) ?_
        refine lv_goto (tgt := 40) hx hb dX3_signedColumnOf_15 (by decide) ?_
        exact j_1 _ (by unfold mC; repeat' split; all_goals omega)
    · refine lv_iconst (v := iI 5) hx hb dX3_signedColumnOf_4 (by rfl) ?_
      refine lv_goto (tgt := 40) hx hb dX3_signedColumnOf_5 (by decide) ?_
      exact j_1 _ (by unfold mC; repeat' split; all_goals omega)
set_option maxHeartbeats 4000000 in
set_option maxRecDepth 100000 in
theorem kX3_signOf (l : Launch) (row i : Int) (hv : 0 ≤ row ∧ row < 5) (hi : 0 ≤ i ∧ i ≤ 63) : Met l yX3_signOf (ws_ yX3_signOf cX3_signOf 4 (some .int)) ({ frames := 12, cells := 0, slots := 0, locals := 160 }) (va_Pc [.int (iI row), .int (iI i)] (fun _ => True)) (vp_Si (fun r => r = iI (mSgn row i))) 0 0 (fun _ => False) := by
  refine Met.ofW (cc := cX3_signOf) (maxL := 4) (ret := (some .int)) (by decide) rfl ?_
  intro p e s m args below meth c s₁ B hml hv
  obtain ⟨rfl, -⟩ := hv
  have hx := B.exec
  have hb := B.bytes
  have hr := B.returns
  have hlk := B.notSynchronized
  have hts := atoms_spec (ws := (ws_ yX3_signOf cX3_signOf 4 (some .int))) B.pre
  have hts : ∀ w ∈ lw_all, w.before _ s = true := fun w h => hts w (List.mem_cons_of_mem _ h)
  have hown : s.vm.findClass RX3 = some m.cls := findClass_of_methodNamed B.named
  have hl := lv_entry ([.int (iI row), .int (iI i)]) (n := 4) (Nat.le_of_ble_eq_true rfl)
  rw [lg_entry_eq]
  generalize (lg_sl ([.int (iI row), .int (iI i)]) ++ List.replicate (4 - (lg_sl ([.int (iI row), .int (iI i)])).length) Slot.unset).toArray = ls at hl ⊢
  have hl : lv_has ls 4 [(0, .int (iI row)), (1, .int (iI i))] := hl
  refine z_join (mE row) (pcM := 40) (ls := ls) (rest := []) ?_ (fun j_1 => ?_)
  · refine lv_istore_n (lv' := [(2, .int (iI (mE row))), (0, .int (iI row)), (1, .int (iI i))]) hx hb dX3_signOf_40 rfl hl (by decide) rfl (fun ls hl => ?_)
    refine z_join (mF row) (pcM := 80) (ls := ls) (rest := []) ?_ (fun j_2 => ?_)
    · refine lv_istore_n (lv' := [(3, .int (iI (mF row))), (2, .int (iI (mE row))), (0, .int (iI row)), (1, .int (iI i))]) hx hb dX3_signOf_80 rfl hl (by decide) rfl (fun ls hl => ?_)
      refine lv_iload_n hx hb dX3_signOf_81 rfl (lv_at hl 1 rfl) ?_
      refine lv_iload_n hx hb dX3_signOf_82 rfl (lv_at hl 3 rfl) ?_
      refine z_imul hx hb dX3_signOf_83 ?_
      refine lv_iload_n hx hb dX3_signOf_84 rfl (lv_at hl 0 rfl) ?_
      refine z_iadd hx hb dX3_signOf_85 ?_
      have hq := mSgn_r (row := row) hi
      refine lv_bipush (v := iI 71) hx hb dX3_signOf_86 (by rfl) ?_
      refine z_irem hx hb dX3_signOf_88 (by omega) (by decide) ?_
      refine lv_iconst (v := iI 2) hx hb dX3_signOf_89 (by rfl) ?_
      refine z_irem hx hb dX3_signOf_90 (by omega) (by decide) ?_
      refine z_if_ne (tgt := 98) hx hb dX3_signOf_91 (by decide) (by omega) (fun c_91 => ?_) (fun c_91 => ?_)
      · refine lv_iconst (v := iI (-1)) hx hb dX3_signOf_98 (by rfl) ?_
        exact z_retS hx hb hr hlk (by unfold mSgn; rw [if_neg c_91]) dX3_signOf_99
      · refine lv_iconst (v := iI 1) hx hb dX3_signOf_94 (by rfl) ?_
        refine lv_goto (tgt := 99) hx hb dX3_signOf_95 (by decide) ?_
        exact z_retS hx hb hr hlk (by unfold mSgn; rw [if_pos c_91]) dX3_signOf_99
    · refine lv_iload_n hx hb dX3_signOf_41 rfl (lv_at hl 1 rfl) ?_
      refine z_if_ne (tgt := 50) hx hb dX3_signOf_42 (by decide) (by omega) (fun c_3 => ?_) (fun c_3 => ?_)
      · refine lv_iload_n hx hb dX3_signOf_50 rfl (lv_at hl 1 rfl) ?_
        refine lv_iconst (v := iI 1) hx hb dX3_signOf_51 (by rfl) ?_
        refine z_icmp_ne (tgt := 59) hx hb dX3_signOf_52 (by decide) (by omega) (by decide) (fun c_4 => ?_) (fun c_4 => ?_)
        · refine lv_iload_n hx hb dX3_signOf_59 rfl (lv_at hl 1 rfl) ?_
          refine lv_iconst (v := iI 2) hx hb dX3_signOf_60 (by rfl) ?_
          refine z_icmp_ne (tgt := 69) hx hb dX3_signOf_61 (by decide) (by omega) (by decide) (fun c_5 => ?_) (fun c_5 => ?_)
          · refine lv_iload_n hx hb dX3_signOf_69 rfl (lv_at hl 1 rfl) ?_
            refine lv_iconst (v := iI 3) hx hb dX3_signOf_70 (by rfl) ?_
            refine z_icmp_ne (tgt := 78) hx hb dX3_signOf_71 (by decide) (by omega) (by decide) (fun c_6 => ?_) (fun c_6 => ?_)
            · refine lv_bipush (v := iI 30) hx hb dX3_signOf_78 (by rfl) ?_
              exact j_2 _ (by unfold mF; repeat' split; all_goals omega)
            · refine lv_iconst (v := iI 5) hx hb dX3_signOf_74 (by rfl) ?_
              refine lv_goto (tgt := 80) hx hb dX3_signOf_75 (by decide) ?_
              exact j_2 _ (by unfold mF; repeat' split; all_goals omega)
          · refine lv_bipush (v := iI 13) hx hb dX3_signOf_64 (by rfl) ?_
            refine lv_goto (tgt := 80) hx hb dX3_signOf_66 (by decide) ?_
            exact j_2 _ (by unfold mF; repeat' split; all_goals omega)
        · refine lv_iconst (v := iI 0) hx hb dX3_signOf_55 (by rfl) ?_
          refine lv_goto (tgt := 80) hx hb dX3_signOf_56 (by decide) ?_
          exact j_2 _ (by unfold mF; repeat' split; all_goals omega)
      · refine lv_bipush (v := iI 7) hx hb dX3_signOf_45 (by rfl) ?_
        refine lv_goto (tgt := 80) hx hb dX3_signOf_47 (by decide) ?_
        exact j_2 _ (by unfold mF; repeat' split; all_goals omega)
  · refine lv_iload_n hx hb dX3_signOf_0 rfl (lv_at hl 0 rfl) ?_
    refine z_if_ne (tgt := 8) hx hb dX3_signOf_1 (by decide) (by omega) (fun c_7 => ?_) (fun c_7 => ?_)
    · refine lv_iload_n hx hb dX3_signOf_8 rfl (lv_at hl 0 rfl) ?_
      refine lv_iconst (v := iI 1) hx hb dX3_signOf_9 (by rfl) ?_
      refine z_icmp_ne (tgt := 18) hx hb dX3_signOf_10 (by decide) (by omega) (by decide) (fun c_8 => ?_) (fun c_8 => ?_)
      · refine lv_iload_n hx hb dX3_signOf_18 rfl (lv_at hl 0 rfl) ?_
        refine lv_iconst (v := iI 2) hx hb dX3_signOf_19 (by rfl) ?_
        refine z_icmp_ne (tgt := 28) hx hb dX3_signOf_20 (by decide) (by omega) (by decide) (fun c_9 => ?_) (fun c_9 => ?_)
        · refine lv_iload_n hx hb dX3_signOf_28 rfl (lv_at hl 0 rfl) ?_
          refine lv_iconst (v := iI 3) hx hb dX3_signOf_29 (by rfl) ?_
          refine z_icmp_ne (tgt := 38) hx hb dX3_signOf_30 (by decide) (by omega) (by decide) (fun c_10 => ?_) (fun c_10 => ?_)
          · refine lv_bipush (v := iI 44) hx hb dX3_signOf_38 (by rfl) ?_
            exact j_1 _ (by unfold mE; repeat' split; all_goals omega)
          · refine lv_bipush (v := iI 29) hx hb dX3_signOf_33 (by rfl) ?_
            refine lv_goto (tgt := 40) hx hb dX3_signOf_35 (by decide) ?_
            exact j_1 _ (by unfold mE; repeat' split; all_goals omega)
        · refine lv_bipush (v := iI 21) hx hb dX3_signOf_23 (by rfl) ?_
          refine lv_goto (tgt := 40) hx hb dX3_signOf_25 (by decide) ?_
          exact j_1 _ (by unfold mE; repeat' split; all_goals omega)
      · refine lv_bipush (v := iI 10) hx hb dX3_signOf_13 (by rfl) ?_
        refine lv_goto (tgt := 40) hx hb dX3_signOf_15 (by decide) ?_
        exact j_1 _ (by unfold mE; repeat' split; all_goals omega)
    · refine lv_iconst (v := iI 3) hx hb dX3_signOf_4 (by rfl) ?_
      refine lv_goto (tgt := 40) hx hb dX3_signOf_5 (by decide) ?_
      exact j_1 _ (by unfold mE; repeat' split; all_goals omega)
set_option maxHeartbeats 4000000 in
set_option maxRecDepth 100000 in
theorem kX3_estimateOf (l : Launch) (D : va_G) (a : Nat → Nat) (kc : Nat → ClassId) (th : Int) (cn tt ce co it we tk fv : Int → Int) (st lev h : Int) (hst : 0 ≤ st ∧ st < 4) (hlev : 0 ≤ lev ∧ lev ≤ 6) (hh : 0 ≤ h) (hB6 : (h + 1) * 2 ^ lev.toNat ≤ 64) (hce : ∀ i9 : Int, 0 ≤ ce i9 ∧ ce i9 ≤ 2000000) : Met l yX3_estimateOf (ws_ yX3_estimateOf cX3_estimateOf 7 (some .int)) ({ frames := 14, cells := 0, slots := 0, locals := 240 }) (va_Pc [.ref (a 0), .int (iI st), .int (iI lev), .int (iI h)] (mR D a kc th cn tt ce co it we tk fv)) (vp_Si (fun r => r = iI (mEst cn ce st lev h))) 0 0 (fun _ => False) := by
  refine Met.ofW (cc := cX3_estimateOf) (maxL := 7) (ret := (some .int)) (by decide) rfl ?_
  intro p e s m args below meth c s₁ B hml hv
  obtain ⟨rfl, hW, hK⟩ := hv
  have hx := B.exec
  have hb := B.bytes
  have hr := B.returns
  have hlk := B.notSynchronized
  have hts := atoms_spec (ws := (ws_ yX3_estimateOf cX3_estimateOf 7 (some .int))) B.pre
  have hts : ∀ w ∈ lw_all, w.before _ s = true := fun w h => hts w (List.mem_cons_of_mem _ h)
  have hown : s.vm.findClass RX3 = some m.cls := findClass_of_methodNamed B.named
  have hl := lv_entry ([.ref (a 0), .int (iI st), .int (iI lev), .int (iI h)]) (n := 7) (Nat.le_of_ble_eq_true rfl)
  rw [lg_entry_eq]
  generalize (lg_sl ([.ref (a 0), .int (iI st), .int (iI lev), .int (iI h)]) ++ List.replicate (7 - (lg_sl ([.ref (a 0), .int (iI st), .int (iI lev), .int (iI h)])).length) Slot.unset).toArray = ls at hl ⊢
  have hl : lv_has ls 7 [(0, .ref (a 0)), (1, .int (iI st)), (2, .int (iI lev)), (3, .int (iI h))] := hl
  have hP : (h + 1) * 2 ^ lev.toNat = h * 2 ^ lev.toNat + 2 ^ lev.toNat := by rw [Int.add_mul, Int.one_mul]
  have hP0 := pw_pos lev
  have hP1 : 0 ≤ h * 2 ^ lev.toNat := Int.mul_nonneg hh (by omega)
  have hQ : (h + 1) * 1 ≤ (h + 1) * 2 ^ lev.toNat := Int.mul_le_mul_of_nonneg_left (by omega) (by omega)
  have hc0 := mCol_b 0 h
  have hc1 := mCol_b 1 h
  have hc2 := mCol_b 2 h
  have hb0 := hce (72 * st + 24 * lev + 8 * 0 + mCol 0 h)
  have hb1 := hce (72 * st + 24 * lev + 8 * 1 + mCol 1 h)
  have hb2 := hce (72 * st + 24 * lev + 8 * 2 + mCol 2 h)
  have hm := zmin_b hb1 hb0
  refine lv_iload_n hx hb dX3_estimateOf_0 rfl (lv_at hl 2 rfl) ?_
  refine lv_iconst (v := iI 3) hx hb dX3_estimateOf_1 (by rfl) ?_
  refine z_icmp_lt (tgt := 21) hx hb dX3_estimateOf_2 (by decide) (by omega) (by decide) (fun c_1 => ?_) (fun c_1 => ?_)
  · refine lv_aload_n hx hb dX3_estimateOf_21 rfl (lv_at hl 0 rfl) ?_
    refine w_getf (ci := 0) (v := .ref (a 3)) (C := RX3) (T := TX3) (N := 9) hx hb hts in_X3 hown hK hW 0 (by decide) rfl rfl 3 (by decide) (hts _ q798) (fun _ h9 => h9) rfl dX3_estimateOf_22 ?_
    refine lv_iload_n hx hb dX3_estimateOf_25 rfl (lv_at hl 1 rfl) ?_
    refine lv_iload_n hx hb dX3_estimateOf_26 rfl (lv_at hl 2 rfl) ?_
    refine lv_iconst (v := iI 0) hx hb dX3_estimateOf_27 (by rfl) ?_
    refine lv_iconst (v := iI 0) hx hb dX3_estimateOf_28 (by rfl) ?_
    refine lv_iload_n hx hb dX3_estimateOf_29 rfl (lv_at hl 3 rfl) ?_
    refine z_cs (W.runS (As := [.int (iI 0), .int (iI h)]) (rest := [.int (iI 0), .int (iI lev), .int (iI st), .ref (a 3)]) ⟨hx, hb, hml, hown, hts⟩ (kX3_columnOf l 0 h (by omega) (by omega)) (va_cwS 2 hts (lw_S q854 q855 q33 q856) rfl rfl rfl (by decide +kernel) ⟨Nat.le_of_ble_eq_true rfl, Nat.le_of_ble_eq_true rfl⟩) ⟨fun _ _ _ _ q => q, fun _ _ _ => ⟨rfl, trivial⟩⟩ rfl rfl hl.1 rfl (lv_room (Nat.le_of_ble_eq_true rfl)) dX3_estimateOf_30 ⟨Nat.le_of_ble_eq_true rfl, Nat.le_of_ble_eq_true rfl⟩) ?_
    refine z_cs (W.runS (As := [.int (iI st), .int (iI lev), .int (iI 0), .int (iI (mCol 0 h))]) (rest := [.ref (a 3)]) ⟨hx, hb, hml, hown, hts⟩ (kX3_placeOf l st lev 0 (mCol 0 h)) (va_cwS 4 hts (lw_S q863 q864 q33 q865) rfl rfl rfl (by decide +kernel) ⟨Nat.le_of_ble_eq_true rfl, Nat.le_of_ble_eq_true rfl⟩) ⟨fun _ _ _ _ q => q, fun _ _ _ => ⟨rfl, trivial⟩⟩ rfl rfl hl.1 rfl (lv_room (Nat.le_of_ble_eq_true rfl)) dX3_estimateOf_33 ⟨Nat.le_of_ble_eq_true rfl, Nat.le_of_ble_eq_true rfl⟩) ?_
    refine w_iald hx hb hK hW 3 0 (by decide) (n := 288) (g := ce) rfl rfl (by omega) (by decide) dX3_estimateOf_36 ?_
    refine lv_istore (lv' := [(4, .int (iI (ce (72 * st + 24 * lev + 8 * 0 + (mCol 0 h))))), (0, .ref (a 0)), (1, .int (iI st)), (2, .int (iI lev)), (3, .int (iI h))]) hx hb dX3_estimateOf_37 hl (by decide) rfl (fun ls hl => ?_)
    refine lv_iconst (v := iI 1) hx hb dX3_estimateOf_39 (by rfl) ?_
    refine lv_istore (lv' := [(5, .int (iI 1)), (4, .int (iI (ce (72 * st + 24 * lev + 8 * 0 + (mCol 0 h))))), (0, .ref (a 0)), (1, .int (iI st)), (2, .int (iI lev)), (3, .int (iI h))]) hx hb dX3_estimateOf_40 hl (by decide) rfl (fun ls hl => ?_)
    refine lv_iload hx hb dX3_estimateOf_42 (lv_at hl 0 rfl) ?_
    refine lv_iconst (v := iI 3) hx hb dX3_estimateOf_44 (by rfl) ?_
    refine z_icmp_ge (tgt := 90) hx hb dX3_estimateOf_45 (by decide) (by decide) (by decide) (fun h9 => absurd h9 (by decide)) (fun _ => ?_)
    refine lv_aload_n hx hb dX3_estimateOf_48 rfl (lv_at hl 2 rfl) ?_
    refine w_getf (ci := 0) (v := .ref (a 3)) (C := RX3) (T := TX3) (N := 9) hx hb hts in_X3 hown hK hW 0 (by decide) rfl rfl 3 (by decide) (hts _ q798) (fun _ h9 => h9) rfl dX3_estimateOf_49 ?_
    refine lv_iload_n hx hb dX3_estimateOf_52 rfl (lv_at hl 3 rfl) ?_
    refine lv_iload_n hx hb dX3_estimateOf_53 rfl (lv_at hl 4 rfl) ?_
    refine lv_iload hx hb dX3_estimateOf_54 (lv_at hl 0 rfl) ?_
    refine lv_iload hx hb dX3_estimateOf_56 (lv_at hl 0 rfl) ?_
    refine lv_iload_n hx hb dX3_estimateOf_58 rfl (lv_at hl 5 rfl) ?_
    refine z_cs (W.runS (As := [.int (iI 1), .int (iI h)]) (rest := [.int (iI 1), .int (iI lev), .int (iI st), .ref (a 3)]) ⟨hx, hb, hml, hown, hts⟩ (kX3_columnOf l 1 h (by omega) (by omega)) (va_cwS 2 hts (lw_S q854 q855 q33 q856) rfl rfl rfl (by decide +kernel) ⟨Nat.le_of_ble_eq_true rfl, Nat.le_of_ble_eq_true rfl⟩) ⟨fun _ _ _ _ q => q, fun _ _ _ => ⟨rfl, trivial⟩⟩ rfl rfl hl.1 rfl (lv_room (Nat.le_of_ble_eq_true rfl)) dX3_estimateOf_59 ⟨Nat.le_of_ble_eq_true rfl, Nat.le_of_ble_eq_true rfl⟩) ?_
    refine z_cs (W.runS (As := [.int (iI st), .int (iI lev), .int (iI 1), .int (iI (mCol 1 h))]) (rest := [.ref (a 3)]) ⟨hx, hb, hml, hown, hts⟩ (kX3_placeOf l st lev 1 (mCol 1 h)) (va_cwS 4 hts (lw_S q863 q864 q33 q865) rfl rfl rfl (by decide +kernel) ⟨Nat.le_of_ble_eq_true rfl, Nat.le_of_ble_eq_true rfl⟩) ⟨fun _ _ _ _ q => q, fun _ _ _ => ⟨rfl, trivial⟩⟩ rfl rfl hl.1 rfl (lv_room (Nat.le_of_ble_eq_true rfl)) dX3_estimateOf_62 ⟨Nat.le_of_ble_eq_true rfl, Nat.le_of_ble_eq_true rfl⟩) ?_
    refine w_iald hx hb hK hW 3 0 (by decide) (n := 288) (g := ce) rfl rfl (by omega) (by decide) dX3_estimateOf_65 ?_
    refine lv_istore (lv' := [(6, .int (iI (ce (72 * st + 24 * lev + 8 * 1 + (mCol 1 h))))), (5, .int (iI 1)), (4, .int (iI (ce (72 * st + 24 * lev + 8 * 0 + (mCol 0 h))))), (0, .ref (a 0)), (1, .int (iI st)), (2, .int (iI lev)), (3, .int (iI h))]) hx hb dX3_estimateOf_66 hl (by decide) rfl (fun ls hl => ?_)
    refine z_dia (P := ce (72 * st + 24 * lev + 8 * 1 + (mCol 1 h)) < ce (72 * st + 24 * lev + 8 * 0 + (mCol 0 h))) (x := (ce (72 * st + 24 * lev + 8 * 1 + (mCol 1 h)))) (y := (ce (72 * st + 24 * lev + 8 * 0 + (mCol 0 h)))) (pcM := 82) (ls := ls) (rest := []) ?_ (fun j_3t j_3f => ?_)
    · refine z_as (zmin (ce (72 * st + 24 * lev + 8 * 1 + (mCol 1 h))) (ce (72 * st + 24 * lev + 8 * 0 + (mCol 0 h)))) (rfl) ?_
      refine lv_istore (lv' := [(4, .int (iI (zmin (ce (72 * st + 24 * lev + 8 * 1 + (mCol 1 h))) (ce (72 * st + 24 * lev + 8 * 0 + (mCol 0 h)))))), (6, .int (iI (ce (72 * st + 24 * lev + 8 * 1 + (mCol 1 h))))), (5, .int (iI 1)), (0, .ref (a 0)), (1, .int (iI st)), (2, .int (iI lev)), (3, .int (iI h))]) hx hb dX3_estimateOf_82 hl (by decide) rfl (fun ls hl => ?_)
      refine lv_iinc (v := iI 2) (lv' := [(5, .int (iI 2)), (4, .int (iI (zmin (ce (72 * st + 24 * lev + 8 * 1 + (mCol 1 h))) (ce (72 * st + 24 * lev + 8 * 0 + (mCol 0 h)))))), (6, .int (iI (ce (72 * st + 24 * lev + 8 * 1 + (mCol 1 h))))), (0, .ref (a 0)), (1, .int (iI st)), (2, .int (iI lev)), (3, .int (iI h))]) hx hb dX3_estimateOf_84 hl (k := 2) rfl (by decide) (by decide) rfl (fun ls hl => ?_)
      refine lv_goto (tgt := 42) hx hb dX3_estimateOf_87 (by decide) ?_
      refine lv_iload hx hb dX3_estimateOf_42 (lv_at hl 0 rfl) ?_
      refine lv_iconst (v := iI 3) hx hb dX3_estimateOf_44 (by rfl) ?_
      refine z_icmp_ge (tgt := 90) hx hb dX3_estimateOf_45 (by decide) (by decide) (by decide) (fun h9 => absurd h9 (by decide)) (fun _ => ?_)
      refine lv_aload_n hx hb dX3_estimateOf_48 rfl (lv_at hl 3 rfl) ?_
      refine w_getf (ci := 0) (v := .ref (a 3)) (C := RX3) (T := TX3) (N := 9) hx hb hts in_X3 hown hK hW 0 (by decide) rfl rfl 3 (by decide) (hts _ q798) (fun _ h9 => h9) rfl dX3_estimateOf_49 ?_
      refine lv_iload_n hx hb dX3_estimateOf_52 rfl (lv_at hl 4 rfl) ?_
      refine lv_iload_n hx hb dX3_estimateOf_53 rfl (lv_at hl 5 rfl) ?_
      refine lv_iload hx hb dX3_estimateOf_54 (lv_at hl 0 rfl) ?_
      refine lv_iload hx hb dX3_estimateOf_56 (lv_at hl 0 rfl) ?_
      refine lv_iload_n hx hb dX3_estimateOf_58 rfl (lv_at hl 6 rfl) ?_
      refine z_cs (W.runS (As := [.int (iI 2), .int (iI h)]) (rest := [.int (iI 2), .int (iI lev), .int (iI st), .ref (a 3)]) ⟨hx, hb, hml, hown, hts⟩ (kX3_columnOf l 2 h (by omega) (by omega)) (va_cwS 2 hts (lw_S q854 q855 q33 q856) rfl rfl rfl (by decide +kernel) ⟨Nat.le_of_ble_eq_true rfl, Nat.le_of_ble_eq_true rfl⟩) ⟨fun _ _ _ _ q => q, fun _ _ _ => ⟨rfl, trivial⟩⟩ rfl rfl hl.1 rfl (lv_room (Nat.le_of_ble_eq_true rfl)) dX3_estimateOf_59 ⟨Nat.le_of_ble_eq_true rfl, Nat.le_of_ble_eq_true rfl⟩) ?_
      refine z_cs (W.runS (As := [.int (iI st), .int (iI lev), .int (iI 2), .int (iI (mCol 2 h))]) (rest := [.ref (a 3)]) ⟨hx, hb, hml, hown, hts⟩ (kX3_placeOf l st lev 2 (mCol 2 h)) (va_cwS 4 hts (lw_S q863 q864 q33 q865) rfl rfl rfl (by decide +kernel) ⟨Nat.le_of_ble_eq_true rfl, Nat.le_of_ble_eq_true rfl⟩) ⟨fun _ _ _ _ q => q, fun _ _ _ => ⟨rfl, trivial⟩⟩ rfl rfl hl.1 rfl (lv_room (Nat.le_of_ble_eq_true rfl)) dX3_estimateOf_62 ⟨Nat.le_of_ble_eq_true rfl, Nat.le_of_ble_eq_true rfl⟩) ?_
      refine w_iald hx hb hK hW 3 0 (by decide) (n := 288) (g := ce) rfl rfl (by omega) (by decide) dX3_estimateOf_65 ?_
      refine lv_istore (lv' := [(6, .int (iI (ce (72 * st + 24 * lev + 8 * 2 + (mCol 2 h))))), (5, .int (iI 2)), (4, .int (iI (zmin (ce (72 * st + 24 * lev + 8 * 1 + (mCol 1 h))) (ce (72 * st + 24 * lev + 8 * 0 + (mCol 0 h)))))), (0, .ref (a 0)), (1, .int (iI st)), (2, .int (iI lev)), (3, .int (iI h))]) hx hb dX3_estimateOf_66 hl (by decide) rfl (fun ls hl => ?_)
      refine z_dia (P := ce (72 * st + 24 * lev + 8 * 2 + (mCol 2 h)) < zmin (ce (72 * st + 24 * lev + 8 * 1 + (mCol 1 h))) (ce (72 * st + 24 * lev + 8 * 0 + (mCol 0 h)))) (x := (ce (72 * st + 24 * lev + 8 * 2 + (mCol 2 h)))) (y := (zmin (ce (72 * st + 24 * lev + 8 * 1 + (mCol 1 h))) (ce (72 * st + 24 * lev + 8 * 0 + (mCol 0 h))))) (pcM := 82) (ls := ls) (rest := []) ?_ (fun j_5t j_5f => ?_)
      · refine z_as (zmin (ce (72 * st + 24 * lev + 8 * 2 + (mCol 2 h))) (zmin (ce (72 * st + 24 * lev + 8 * 1 + (mCol 1 h))) (ce (72 * st + 24 * lev + 8 * 0 + (mCol 0 h))))) (rfl) ?_
        refine lv_istore (lv' := [(4, .int (iI (zmin (ce (72 * st + 24 * lev + 8 * 2 + (mCol 2 h))) (zmin (ce (72 * st + 24 * lev + 8 * 1 + (mCol 1 h))) (ce (72 * st + 24 * lev + 8 * 0 + (mCol 0 h))))))), (6, .int (iI (ce (72 * st + 24 * lev + 8 * 2 + (mCol 2 h))))), (5, .int (iI 2)), (0, .ref (a 0)), (1, .int (iI st)), (2, .int (iI lev)), (3, .int (iI h))]) hx hb dX3_estimateOf_82 hl (by decide) rfl (fun ls hl => ?_)
        refine lv_iinc (v := iI 3) (lv' := [(5, .int (iI 3)), (4, .int (iI (zmin (ce (72 * st + 24 * lev + 8 * 2 + (mCol 2 h))) (zmin (ce (72 * st + 24 * lev + 8 * 1 + (mCol 1 h))) (ce (72 * st + 24 * lev + 8 * 0 + (mCol 0 h))))))), (6, .int (iI (ce (72 * st + 24 * lev + 8 * 2 + (mCol 2 h))))), (0, .ref (a 0)), (1, .int (iI st)), (2, .int (iI lev)), (3, .int (iI h))]) hx hb dX3_estimateOf_84 hl (k := 2) rfl (by decide) (by decide) rfl (fun ls hl => ?_)
        refine lv_goto (tgt := 42) hx hb dX3_estimateOf_87 (by decide) ?_
        refine lv_iload hx hb dX3_estimateOf_42 (lv_at hl 0 rfl) ?_
        refine lv_iconst (v := iI 3) hx hb dX3_estimateOf_44 (by rfl) ?_
        refine z_icmp_ge (tgt := 90) hx hb dX3_estimateOf_45 (by decide) (by decide) (by decide) (fun _ => ?_) (fun h9 => absurd h9 (by decide))
        refine lv_iload hx hb dX3_estimateOf_90 (lv_at hl 1 rfl) ?_
        exact z_retS hx hb hr hlk (by unfold mEst; rw [if_neg (by omega)]) dX3_estimateOf_92
      · refine lv_iload hx hb dX3_estimateOf_68 (lv_at hl 0 rfl) ?_
        refine lv_iload hx hb dX3_estimateOf_70 (lv_at hl 2 rfl) ?_
        refine z_icmp_ge (tgt := 80) hx hb dX3_estimateOf_72 (by decide) (by omega) (by omega) (fun c_7 => ?_) (fun c_7 => ?_)
        · refine lv_iload hx hb dX3_estimateOf_80 (lv_at hl 2 rfl) ?_
          exact j_5f (by omega)
        · refine lv_iload hx hb dX3_estimateOf_75 (lv_at hl 0 rfl) ?_
          refine lv_goto (tgt := 82) hx hb dX3_estimateOf_77 (by decide) ?_
          exact j_5t (by omega)
    · refine lv_iload hx hb dX3_estimateOf_68 (lv_at hl 0 rfl) ?_
      refine lv_iload hx hb dX3_estimateOf_70 (lv_at hl 2 rfl) ?_
      refine z_icmp_ge (tgt := 80) hx hb dX3_estimateOf_72 (by decide) (by omega) (by omega) (fun c_8 => ?_) (fun c_8 => ?_)
      · refine lv_iload hx hb dX3_estimateOf_80 (lv_at hl 2 rfl) ?_
        exact j_3f (by omega)
      · refine lv_iload hx hb dX3_estimateOf_75 (lv_at hl 0 rfl) ?_
        refine lv_goto (tgt := 82) hx hb dX3_estimateOf_77 (by decide) ?_
        exact j_3t (by omega)
  · refine lv_aload_n hx hb dX3_estimateOf_5 rfl (lv_at hl 0 rfl) ?_
    refine lv_iload_n hx hb dX3_estimateOf_6 rfl (lv_at hl 1 rfl) ?_
    refine lv_iload_n hx hb dX3_estimateOf_7 rfl (lv_at hl 3 rfl) ?_
    refine lv_iload_n hx hb dX3_estimateOf_8 rfl (lv_at hl 2 rfl) ?_
    refine z_ishl hx hb dX3_estimateOf_9 (by omega) (by omega) (shl_ok (by omega) (by omega)) ?_
    refine lv_iload_n hx hb dX3_estimateOf_10 rfl (lv_at hl 3 rfl) ?_
    refine lv_iconst (v := iI 1) hx hb dX3_estimateOf_11 (by rfl) ?_
    refine z_iadd hx hb dX3_estimateOf_12 ?_
    refine lv_iload_n hx hb dX3_estimateOf_13 rfl (lv_at hl 2 rfl) ?_
    refine z_ishl hx hb dX3_estimateOf_14 (by omega) (by omega) (shl_ok (by omega) (by omega)) ?_
    refine lv_iconst (v := iI 1) hx hb dX3_estimateOf_15 (by rfl) ?_
    refine z_isub hx hb dX3_estimateOf_16 ?_
    refine z_cs (W.runV (As := [.int (iI st), .int (iI (h * 2 ^ (lev).toNat)), .int (iI (((h + 1) * 2 ^ (lev).toNat) - 1))]) (rest := []) ⟨hx, hb, hml, hown, hts⟩ (kX3_sum l D a kc th cn tt ce co it we tk fv st (h * 2 ^ (lev).toNat) (((h + 1) * 2 ^ (lev).toNat) - 1) (by omega) (by omega) (by omega)) (cwV 3 hts (lw_V q850 q852 qs14 q33 q853) rfl rfl rfl (by decide +kernel) ⟨Nat.le_of_ble_eq_true rfl, Nat.le_of_ble_eq_true rfl⟩) ⟨mR_blind, w_recv hK hW 0 (by decide) rfl rfl, mR_pre hW hK⟩ rfl rfl hl.1 rfl (lv_room (Nat.le_of_ble_eq_true rfl)) dX3_estimateOf_17 ⟨Nat.le_of_ble_eq_true rfl, Nat.le_of_ble_eq_true rfl⟩) ?_
    exact z_retS hx hb hr hlk (by unfold mEst; rw [if_pos (by omega), show (h + 1) * 2 ^ lev.toNat - 1 + 1 - h * 2 ^ lev.toNat = 2 ^ lev.toNat by omega]) dX3_estimateOf_20
/-- the careful cells of a level, behind an item's weight -/
def mRow (st lev h thn : Int) (ce : Int → Int) (r : Int) : Int → Int := zu ce (72 * st + 24 * lev + 8 * r + mCol r h) (if thn < ce (72 * st + 24 * lev + 8 * r + mCol r h) then ce (72 * st + 24 * lev + 8 * r + mCol r h) else thn)
def mLev (cn : Int → Int) (st item w : Int) (ce : Int → Int) (lev : Int) : Int → Int :=
  mRow st lev (item / 2 ^ lev.toNat) (mEst cn ce st lev (item / 2 ^ lev.toNat) + w) (mRow st lev (item / 2 ^ lev.toNat) (mEst cn ce st lev (item / 2 ^ lev.toNat) + w) (mRow st lev (item / 2 ^ lev.toNat) (mEst cn ce st lev (item / 2 ^ lev.toNat) + w) ce 0) 1) 2
def mCare (cn : Int → Int) (st item w : Int) (ce : Int → Int) : Nat → (Int → Int)
  | 0 => ce
  | n + 1 => mLev cn st item w (mCare cn st item w ce n) n
theorem mRow_b {st lev h thn r B : Int} {ce : Int → Int} (hce : ∀ i, 0 ≤ ce i ∧ ce i ≤ B) (ht : 0 ≤ thn ∧ thn ≤ B) : ∀ i, 0 ≤ mRow st lev h thn ce r i ∧ mRow st lev h thn ce r i ≤ B := by
  unfold mRow
  refine zu_all (P := fun z => 0 ≤ z ∧ z ≤ B) hce ?_
  split
  · exact hce _
  · exact ht
theorem mCare_s {cn : Int → Int} {st item w : Int} {ce : Int → Int} {lev : Int} (h : 0 ≤ lev) : mCare cn st item w ce (lev + 1).toNat = mLev cn st item w (mCare cn st item w ce lev.toNat) lev := by
  rw [show (lev + 1).toNat = lev.toNat + 1 by omega]
  show mLev cn st item w (mCare cn st item w ce lev.toNat) ((lev.toNat : Nat) : Int) = _
  rw [show ((lev.toNat : Nat) : Int) = lev by omega]
set_option maxHeartbeats 4000000 in
set_option maxRecDepth 100000 in
theorem kX3_addsCarefully (l : Launch) (D : va_G) (a : Nat → Nat) (kc : Nat → ClassId) (th : Int) (cn tt ce co it we tk fv : Int → Int) (sz : Nat) (st item w : Int) (hst : 0 ≤ st ∧ st < 4) (hi : 0 ≤ item ∧ item ≤ 63) (hw : 0 ≤ w ∧ w ≤ 1000) (hce : ∀ i9 : Int, 0 ≤ ce i9 ∧ ce i9 ≤ 1000000) (hcn : ∀ i9 : Int, 0 ≤ cn i9 ∧ cn i9 ≤ 1000000) : Met l yX3_addsCarefully (ws_ yX3_addsCarefully cX3_addsCarefully 9 none) ({ frames := 15, cells := 0, slots := 0, locals := 280 }) (va_Pc [.ref (a 0), .int (iI st), .int (iI item), .int (iI w)] (mW D a kc th cn tt ce co it we tk fv sz)) (va_Qv (fun (_ : Unit) => True) (fun (_ : Unit) t8 => RW D clz mL a (mct a kc th cn tt (mCare cn st item w ce 3) co it we tk fv) t8.heap) (RA mL a sz)) 0 0 (RA mL a sz) := by
  refine Met.ofW (cc := cX3_addsCarefully) (maxL := 9) (ret := none) (by decide) rfl ?_
  intro p e s m args below meth c s₁ B hml hv
  obtain ⟨rfl, hsz, hW, hK, hJ0⟩ := hv
  subst hsz
  have hJ := hJ0.self (sz := s.heap.size)
  have hS : va_S (RA mL a s.heap.size) s.heap s.heap [] := va_S.rf
  have hx := B.exec
  have hb := B.bytes
  have hr := B.returns
  have hlk := B.notSynchronized
  have hts := atoms_spec (ws := (ws_ yX3_addsCarefully cX3_addsCarefully 9 none)) B.pre
  have hts : ∀ w ∈ lw_all, w.before _ s = true := fun w h => hts w (List.mem_cons_of_mem _ h)
  have hown : s.vm.findClass RX3 = some m.cls := findClass_of_methodNamed B.named
  have hl := lv_entry ([.ref (a 0), .int (iI st), .int (iI item), .int (iI w)]) (n := 9) (Nat.le_of_ble_eq_true rfl)
  rw [lg_entry_eq]
  generalize (lg_sl ([.ref (a 0), .int (iI st), .int (iI item), .int (iI w)]) ++ List.replicate (9 - (lg_sl ([.ref (a 0), .int (iI st), .int (iI item), .int (iI w)])).length) Slot.unset).toArray = ls at hl ⊢
  have hl : lv_has ls 9 [(0, .ref (a 0)), (1, .int (iI st)), (2, .int (iI item)), (3, .int (iI w))] := hl
  refine lv_iconst (v := iI 0) hx hb dX3_addsCarefully_0 (by rfl) ?_
  refine lv_istore (lv' := [(4, .int (iI 0)), (0, .ref (a 0)), (1, .int (iI st)), (2, .int (iI item)), (3, .int (iI w))]) hx hb dX3_addsCarefully_1 hl (by decide) rfl (fun ls hl => ?_)
  refine z_loopW (σ := Int × (Int → Int)) (fun x9 => [(0, .ref (a 0)), (1, .int (iI st)), (2, .int (iI item)), (3, .int (iI w)), (4, .int (iI x9.1))]) (fun x9 => (0 ≤ x9.1 ∧ x9.1 ≤ 3) ∧ (x9.2 = mCare cn st item w ce x9.1.toNat) ∧ (∀ i9 : Int, 0 ≤ x9.2 i9 ∧ x9.2 i9 ≤ 1000000 + 1000 * x9.1)) (fun x9 H9 => RW D clz mL a (mct a kc th cn tt x9.2 co it we tk fv) H9) (fun x9 => (3 - x9.1).toNat) ?_ (0, ce) (by show (0 ≤ (0 : Int) ∧ (0 : Int) ≤ 3) ∧ (ce = mCare cn st item w ce (0 : Int).toNat) ∧ (∀ i9 : Int, 0 ≤ ce i9 ∧ ce i9 ≤ 1000000 + 1000 * (0 : Int)); exact ⟨by omega, rfl, fun i => by have := hce i; show 0 ≤ ce i ∧ ce i ≤ 1000000 + 1000 * 0; omega⟩) hW hS (lv_sub hl [1, 2, 3, 4, 0] rfl)
  rintro ⟨lev, ce1⟩ H locs hI9 hW hS ih_3 ls hl
  have hI9 : (0 ≤ lev ∧ lev ≤ 3) ∧ (ce1 = mCare cn st item w ce lev.toNat) ∧ (∀ i9 : Int, 0 ≤ ce1 i9 ∧ ce1 i9 ≤ 1000000 + 1000 * lev) := hI9
  obtain ⟨h1, h2, h3⟩ := hI9
  have hl : lv_has ls 9 [(0, .ref (a 0)), (1, .int (iI st)), (2, .int (iI item)), (3, .int (iI w)), (4, .int (iI lev))] := hl
  have hW : RW D clz mL a (mct a kc th cn tt ce1 co it we tk fv) H := hW
  refine lv_iload hx hb dX3_addsCarefully_3 (lv_at hl 4 rfl) ?_
  refine lv_iconst (v := iI 3) hx hb dX3_addsCarefully_5 (by rfl) ?_
  refine z_icmp_ge (tgt := 97) hx hb dX3_addsCarefully_6 (by decide) (by omega) (by decide) (fun c_1 => ?_) (fun c_1 => ?_)
  · have hk : lev = 3 := by omega
    rw [hk] at h2
    subst h2
    exact z_retWv hx hb hr hlk hW hS dX3_addsCarefully_97
  · refine lv_iload_n hx hb dX3_addsCarefully_9 rfl (lv_at hl 2 rfl) ?_
    refine lv_iload hx hb dX3_addsCarefully_10 (lv_at hl 4 rfl) ?_
    refine z_ishr hx hb dX3_addsCarefully_12 (by omega) (by omega) ?_
    refine z_top (fun hf e_hf => ?_)
    have eqf : hf = item / 2 ^ lev.toNat := e_hf
    have hho := half_ok hi (x := lev) (by omega)
    rw [← eqf] at hho
    refine lv_istore (lv' := [(5, .int (iI hf)), (0, .ref (a 0)), (1, .int (iI st)), (2, .int (iI item)), (3, .int (iI w)), (4, .int (iI lev))]) hx hb dX3_addsCarefully_13 hl (by decide) rfl (fun ls hl => ?_)
    refine lv_aload_n hx hb dX3_addsCarefully_15 rfl (lv_at hl 1 rfl) ?_
    refine lv_iload_n hx hb dX3_addsCarefully_16 rfl (lv_at hl 2 rfl) ?_
    refine lv_iload hx hb dX3_addsCarefully_17 (lv_at hl 5 rfl) ?_
    refine lv_iload hx hb dX3_addsCarefully_19 (lv_at hl 0 rfl) ?_
    refine z_cs (W.runV (As := [.int (iI st), .int (iI lev), .int (iI hf)]) (rest := []) ⟨hx, hb, hml, hown, hts⟩ (kX3_estimateOf l D a kc th cn tt ce1 co it we tk fv st lev hf (by omega) (by omega) (hho.1) (hho.2.1) (fun i => by have := h3 i; omega)) (cwV 3 hts (lw_V q846 q848 qs13 q33 q849) rfl rfl rfl (by decide +kernel) ⟨Nat.le_of_ble_eq_true rfl, Nat.le_of_ble_eq_true rfl⟩) ⟨mR_blind, w_recv hK hW 0 (by decide) rfl rfl, mR_pre hW hK⟩ rfl rfl hl.1 rfl (lv_room (Nat.le_of_ble_eq_true rfl)) dX3_addsCarefully_21 ⟨Nat.le_of_ble_eq_true rfl, Nat.le_of_ble_eq_true rfl⟩) ?_
    refine lv_iload_n hx hb dX3_addsCarefully_24 rfl (lv_at hl 4 rfl) ?_
    refine z_iadd hx hb dX3_addsCarefully_25 ?_
    refine z_top (fun thn e_thn => ?_)
    have hE := mEst_b3 (cn := cn) h3 st lev hf (by omega)
    have eqt : thn = mEst cn ce1 st lev hf + w := e_thn
    have bce1 : ∀ i9 : Int, 0 ≤ ce1 i9 ∧ ce1 i9 ≤ 1000000 + 1000 * (lev + 1) := fun i9 => by have := h3 i9; omega
    rw [eqf] at eqt
    rw [← eqf] at eqt
    refine lv_istore (lv' := [(6, .int (iI thn)), (5, .int (iI hf)), (0, .ref (a 0)), (1, .int (iI st)), (2, .int (iI item)), (3, .int (iI w)), (4, .int (iI lev))]) hx hb dX3_addsCarefully_26 hl (by decide) rfl (fun ls hl => ?_)
    refine lv_iconst (v := iI 0) hx hb dX3_addsCarefully_28 (by rfl) ?_
    refine lv_istore (lv' := [(7, .int (iI 0)), (6, .int (iI thn)), (5, .int (iI hf)), (0, .ref (a 0)), (1, .int (iI st)), (2, .int (iI item)), (3, .int (iI w)), (4, .int (iI lev))]) hx hb dX3_addsCarefully_29 hl (by decide) rfl (fun ls hl => ?_)
    refine lv_iload hx hb dX3_addsCarefully_31 (lv_at hl 0 rfl) ?_
    refine lv_iconst (v := iI 3) hx hb dX3_addsCarefully_33 (by rfl) ?_
    refine z_icmp_ge (tgt := 91) hx hb dX3_addsCarefully_34 (by decide) (by decide) (by decide) (fun h9 => absurd h9 (by decide)) (fun _ => ?_)
    refine lv_iload_n hx hb dX3_addsCarefully_37 rfl (lv_at hl 4 rfl) ?_
    refine lv_iload hx hb dX3_addsCarefully_38 (lv_at hl 7 rfl) ?_
    refine lv_iload hx hb dX3_addsCarefully_40 (lv_at hl 0 rfl) ?_
    refine lv_iload hx hb dX3_addsCarefully_42 (lv_at hl 0 rfl) ?_
    refine lv_iload hx hb dX3_addsCarefully_44 (lv_at hl 2 rfl) ?_
    refine z_cs (W.runS (As := [.int (iI 0), .int (iI hf)]) (rest := [.int (iI 0), .int (iI lev), .int (iI st)]) ⟨hx, hb, hml, hown, hts⟩ (kX3_columnOf l 0 hf (by omega) (by omega)) (va_cwS 2 hts (lw_S q854 q855 q33 q856) rfl rfl rfl (by decide +kernel) ⟨Nat.le_of_ble_eq_true rfl, Nat.le_of_ble_eq_true rfl⟩) ⟨fun _ _ _ _ q => q, fun _ _ _ => ⟨rfl, trivial⟩⟩ rfl rfl hl.1 rfl (lv_room (Nat.le_of_ble_eq_true rfl)) dX3_addsCarefully_46 ⟨Nat.le_of_ble_eq_true rfl, Nat.le_of_ble_eq_true rfl⟩) ?_
    refine z_cs (W.runS (As := [.int (iI st), .int (iI lev), .int (iI 0), .int (iI (mCol 0 hf))]) (rest := []) ⟨hx, hb, hml, hown, hts⟩ (kX3_placeOf l st lev 0 (mCol 0 hf)) (va_cwS 4 hts (lw_S q863 q864 q33 q865) rfl rfl rfl (by decide +kernel) ⟨Nat.le_of_ble_eq_true rfl, Nat.le_of_ble_eq_true rfl⟩) ⟨fun _ _ _ _ q => q, fun _ _ _ => ⟨rfl, trivial⟩⟩ rfl rfl hl.1 rfl (lv_room (Nat.le_of_ble_eq_true rfl)) dX3_addsCarefully_49 ⟨Nat.le_of_ble_eq_true rfl, Nat.le_of_ble_eq_true rfl⟩) ?_
    refine lv_istore (lv' := [(8, .int (iI (72 * st + 24 * lev + 8 * 0 + (mCol 0 hf)))), (7, .int (iI 0)), (6, .int (iI thn)), (5, .int (iI hf)), (0, .ref (a 0)), (1, .int (iI st)), (2, .int (iI item)), (3, .int (iI w)), (4, .int (iI lev))]) hx hb dX3_addsCarefully_52 hl (by decide) rfl (fun ls hl => ?_)
    have hcr := mCol_b 0 hf
    have hbr := bce1 (72 * st + 24 * lev + 8 * 0 + (mCol 0 hf))
    refine lv_aload_n hx hb dX3_addsCarefully_54 rfl (lv_at hl 4 rfl) ?_
    refine w_getf (ci := 0) (v := .ref (a 3)) (C := RX3) (T := TX3) (N := 9) hx hb hts in_X3 hown hK hW 0 (by decide) rfl rfl 3 (by decide) (hts _ q798) (fun _ h9 => h9) rfl dX3_addsCarefully_55 ?_
    refine lv_iload hx hb dX3_addsCarefully_58 (lv_at hl 0 rfl) ?_
    refine z_dia (P := thn < ce1 (72 * st + 24 * lev + 8 * 0 + (mCol 0 hf))) (x := (ce1 (72 * st + 24 * lev + 8 * 0 + (mCol 0 hf)))) (y := thn) (pcM := 84) (ls := ls) (rest := [.int (iI (72 * st + 24 * lev + 8 * 0 + (mCol 0 hf))), .ref (a 3)]) ?_ (fun j_3t j_3f => ?_)
    · refine w_iast hx hb hK hW hJ hS 3 0 (by decide) (n := 288) (g := ce1) rfl rfl (by omega) (by decide) (mct_3 _ _ _ _ _ _ _ _ _ _ _ _) dX3_addsCarefully_84 (fun H locs hW hS hz => ?_)
      have hW : RW D clz mL a (mct a kc th cn tt (zu ce1 (72 * st + 24 * lev + 8 * 0 + (mCol 0 hf)) (if thn < ce1 (72 * st + 24 * lev + 8 * 0 + (mCol 0 hf)) then ce1 (72 * st + 24 * lev + 8 * 0 + (mCol 0 hf)) else thn)) co it we tk fv) H := hW
      obtain ⟨ce_4, hce_4⟩ : ∃ z, z = zu ce1 (72 * st + 24 * lev + 8 * 0 + (mCol 0 hf)) (if thn < ce1 (72 * st + 24 * lev + 8 * 0 + (mCol 0 hf)) then ce1 (72 * st + 24 * lev + 8 * 0 + (mCol 0 hf)) else thn) := ⟨_, rfl⟩
      rw [← hce_4] at hW
      have bce_4 : ∀ i9 : Int, 0 ≤ ce_4 i9 ∧ ce_4 i9 ≤ 1000000 + 1000 * (lev + 1) := by rw [hce_4]; refine zu_all (P := fun z => 0 ≤ z ∧ z ≤ 1000000 + 1000 * (lev + 1)) bce1 ?_; have h9 := bce1 (72 * st + 24 * lev + 8 * 0 + (mCol 0 hf)); split <;> omega
      refine lv_iinc (v := iI 1) (lv' := [(7, .int (iI 1)), (8, .int (iI (72 * st + 24 * lev + 8 * 0 + (mCol 0 hf)))), (6, .int (iI thn)), (5, .int (iI hf)), (0, .ref (a 0)), (1, .int (iI st)), (2, .int (iI item)), (3, .int (iI w)), (4, .int (iI lev))]) hx hb dX3_addsCarefully_85 hl (k := 1) rfl (by decide) (by decide) rfl (fun ls hl => ?_)
      refine lv_goto (tgt := 31) hx hb dX3_addsCarefully_88 (by decide) ?_
      refine lv_iload hx hb dX3_addsCarefully_31 (lv_at hl 0 rfl) ?_
      refine lv_iconst (v := iI 3) hx hb dX3_addsCarefully_33 (by rfl) ?_
      refine z_icmp_ge (tgt := 91) hx hb dX3_addsCarefully_34 (by decide) (by decide) (by decide) (fun h9 => absurd h9 (by decide)) (fun _ => ?_)
      refine lv_iload_n hx hb dX3_addsCarefully_37 rfl (lv_at hl 5 rfl) ?_
      refine lv_iload hx hb dX3_addsCarefully_38 (lv_at hl 8 rfl) ?_
      refine lv_iload hx hb dX3_addsCarefully_40 (lv_at hl 0 rfl) ?_
      refine lv_iload hx hb dX3_addsCarefully_42 (lv_at hl 0 rfl) ?_
      refine lv_iload hx hb dX3_addsCarefully_44 (lv_at hl 3 rfl) ?_
      refine z_cs (W.runS (As := [.int (iI 1), .int (iI hf)]) (rest := [.int (iI 1), .int (iI lev), .int (iI st)]) ⟨hx, hb, hml, hown, hts⟩ (kX3_columnOf l 1 hf (by omega) (by omega)) (va_cwS 2 hts (lw_S q854 q855 q33 q856) rfl rfl rfl (by decide +kernel) ⟨Nat.le_of_ble_eq_true rfl, Nat.le_of_ble_eq_true rfl⟩) ⟨fun _ _ _ _ q => q, fun _ _ _ => ⟨rfl, trivial⟩⟩ rfl rfl hl.1 rfl (lv_room (Nat.le_of_ble_eq_true rfl)) dX3_addsCarefully_46 ⟨Nat.le_of_ble_eq_true rfl, Nat.le_of_ble_eq_true rfl⟩) ?_
      refine z_cs (W.runS (As := [.int (iI st), .int (iI lev), .int (iI 1), .int (iI (mCol 1 hf))]) (rest := []) ⟨hx, hb, hml, hown, hts⟩ (kX3_placeOf l st lev 1 (mCol 1 hf)) (va_cwS 4 hts (lw_S q863 q864 q33 q865) rfl rfl rfl (by decide +kernel) ⟨Nat.le_of_ble_eq_true rfl, Nat.le_of_ble_eq_true rfl⟩) ⟨fun _ _ _ _ q => q, fun _ _ _ => ⟨rfl, trivial⟩⟩ rfl rfl hl.1 rfl (lv_room (Nat.le_of_ble_eq_true rfl)) dX3_addsCarefully_49 ⟨Nat.le_of_ble_eq_true rfl, Nat.le_of_ble_eq_true rfl⟩) ?_
      refine lv_istore (lv' := [(8, .int (iI (72 * st + 24 * lev + 8 * 1 + (mCol 1 hf)))), (7, .int (iI 1)), (6, .int (iI thn)), (5, .int (iI hf)), (0, .ref (a 0)), (1, .int (iI st)), (2, .int (iI item)), (3, .int (iI w)), (4, .int (iI lev))]) hx hb dX3_addsCarefully_52 hl (by decide) rfl (fun ls hl => ?_)
      have hcr := mCol_b 1 hf
      have hbr := bce_4 (72 * st + 24 * lev + 8 * 1 + (mCol 1 hf))
      refine lv_aload_n hx hb dX3_addsCarefully_54 rfl (lv_at hl 4 rfl) ?_
      refine w_getf (ci := 0) (v := .ref (a 3)) (C := RX3) (T := TX3) (N := 9) hx hb hts in_X3 hown hK hW 0 (by decide) rfl rfl 3 (by decide) (hts _ q798) (fun _ h9 => h9) rfl dX3_addsCarefully_55 ?_
      refine lv_iload hx hb dX3_addsCarefully_58 (lv_at hl 0 rfl) ?_
      refine z_dia (P := thn < ce_4 (72 * st + 24 * lev + 8 * 1 + (mCol 1 hf))) (x := (ce_4 (72 * st + 24 * lev + 8 * 1 + (mCol 1 hf)))) (y := thn) (pcM := 84) (ls := ls) (rest := [.int (iI (72 * st + 24 * lev + 8 * 1 + (mCol 1 hf))), .ref (a 3)]) ?_ (fun j_6t j_6f => ?_)
      · refine w_iast hx hb hK hW hJ hS 3 0 (by decide) (n := 288) (g := ce_4) rfl rfl (by omega) (by decide) (mct_3 _ _ _ _ _ _ _ _ _ _ _ _) dX3_addsCarefully_84 (fun H locs hW hS hz => ?_)
        have hW : RW D clz mL a (mct a kc th cn tt (zu ce_4 (72 * st + 24 * lev + 8 * 1 + (mCol 1 hf)) (if thn < ce_4 (72 * st + 24 * lev + 8 * 1 + (mCol 1 hf)) then ce_4 (72 * st + 24 * lev + 8 * 1 + (mCol 1 hf)) else thn)) co it we tk fv) H := hW
        obtain ⟨ce_7, hce_7⟩ : ∃ z, z = zu ce_4 (72 * st + 24 * lev + 8 * 1 + (mCol 1 hf)) (if thn < ce_4 (72 * st + 24 * lev + 8 * 1 + (mCol 1 hf)) then ce_4 (72 * st + 24 * lev + 8 * 1 + (mCol 1 hf)) else thn) := ⟨_, rfl⟩
        rw [← hce_7] at hW
        have bce_7 : ∀ i9 : Int, 0 ≤ ce_7 i9 ∧ ce_7 i9 ≤ 1000000 + 1000 * (lev + 1) := by rw [hce_7]; refine zu_all (P := fun z => 0 ≤ z ∧ z ≤ 1000000 + 1000 * (lev + 1)) bce_4 ?_; have h9 := bce_4 (72 * st + 24 * lev + 8 * 1 + (mCol 1 hf)); split <;> omega
        refine lv_iinc (v := iI 2) (lv' := [(7, .int (iI 2)), (8, .int (iI (72 * st + 24 * lev + 8 * 1 + (mCol 1 hf)))), (6, .int (iI thn)), (5, .int (iI hf)), (0, .ref (a 0)), (1, .int (iI st)), (2, .int (iI item)), (3, .int (iI w)), (4, .int (iI lev))]) hx hb dX3_addsCarefully_85 hl (k := 1) rfl (by decide) (by decide) rfl (fun ls hl => ?_)
        refine lv_goto (tgt := 31) hx hb dX3_addsCarefully_88 (by decide) ?_
        refine lv_iload hx hb dX3_addsCarefully_31 (lv_at hl 0 rfl) ?_
        refine lv_iconst (v := iI 3) hx hb dX3_addsCarefully_33 (by rfl) ?_
        refine z_icmp_ge (tgt := 91) hx hb dX3_addsCarefully_34 (by decide) (by decide) (by decide) (fun h9 => absurd h9 (by decide)) (fun _ => ?_)
        refine lv_iload_n hx hb dX3_addsCarefully_37 rfl (lv_at hl 5 rfl) ?_
        refine lv_iload hx hb dX3_addsCarefully_38 (lv_at hl 8 rfl) ?_
        refine lv_iload hx hb dX3_addsCarefully_40 (lv_at hl 0 rfl) ?_
        refine lv_iload hx hb dX3_addsCarefully_42 (lv_at hl 0 rfl) ?_
        refine lv_iload hx hb dX3_addsCarefully_44 (lv_at hl 3 rfl) ?_
        refine z_cs (W.runS (As := [.int (iI 2), .int (iI hf)]) (rest := [.int (iI 2), .int (iI lev), .int (iI st)]) ⟨hx, hb, hml, hown, hts⟩ (kX3_columnOf l 2 hf (by omega) (by omega)) (va_cwS 2 hts (lw_S q854 q855 q33 q856) rfl rfl rfl (by decide +kernel) ⟨Nat.le_of_ble_eq_true rfl, Nat.le_of_ble_eq_true rfl⟩) ⟨fun _ _ _ _ q => q, fun _ _ _ => ⟨rfl, trivial⟩⟩ rfl rfl hl.1 rfl (lv_room (Nat.le_of_ble_eq_true rfl)) dX3_addsCarefully_46 ⟨Nat.le_of_ble_eq_true rfl, Nat.le_of_ble_eq_true rfl⟩) ?_
        refine z_cs (W.runS (As := [.int (iI st), .int (iI lev), .int (iI 2), .int (iI (mCol 2 hf))]) (rest := []) ⟨hx, hb, hml, hown, hts⟩ (kX3_placeOf l st lev 2 (mCol 2 hf)) (va_cwS 4 hts (lw_S q863 q864 q33 q865) rfl rfl rfl (by decide +kernel) ⟨Nat.le_of_ble_eq_true rfl, Nat.le_of_ble_eq_true rfl⟩) ⟨fun _ _ _ _ q => q, fun _ _ _ => ⟨rfl, trivial⟩⟩ rfl rfl hl.1 rfl (lv_room (Nat.le_of_ble_eq_true rfl)) dX3_addsCarefully_49 ⟨Nat.le_of_ble_eq_true rfl, Nat.le_of_ble_eq_true rfl⟩) ?_
        refine lv_istore (lv' := [(8, .int (iI (72 * st + 24 * lev + 8 * 2 + (mCol 2 hf)))), (7, .int (iI 2)), (6, .int (iI thn)), (5, .int (iI hf)), (0, .ref (a 0)), (1, .int (iI st)), (2, .int (iI item)), (3, .int (iI w)), (4, .int (iI lev))]) hx hb dX3_addsCarefully_52 hl (by decide) rfl (fun ls hl => ?_)
        have hcr := mCol_b 2 hf
        have hbr := bce_7 (72 * st + 24 * lev + 8 * 2 + (mCol 2 hf))
        refine lv_aload_n hx hb dX3_addsCarefully_54 rfl (lv_at hl 4 rfl) ?_
        refine w_getf (ci := 0) (v := .ref (a 3)) (C := RX3) (T := TX3) (N := 9) hx hb hts in_X3 hown hK hW 0 (by decide) rfl rfl 3 (by decide) (hts _ q798) (fun _ h9 => h9) rfl dX3_addsCarefully_55 ?_
        refine lv_iload hx hb dX3_addsCarefully_58 (lv_at hl 0 rfl) ?_
        refine z_dia (P := thn < ce_7 (72 * st + 24 * lev + 8 * 2 + (mCol 2 hf))) (x := (ce_7 (72 * st + 24 * lev + 8 * 2 + (mCol 2 hf)))) (y := thn) (pcM := 84) (ls := ls) (rest := [.int (iI (72 * st + 24 * lev + 8 * 2 + (mCol 2 hf))), .ref (a 3)]) ?_ (fun j_9t j_9f => ?_)
        · refine w_iast hx hb hK hW hJ hS 3 0 (by decide) (n := 288) (g := ce_7) rfl rfl (by omega) (by decide) (mct_3 _ _ _ _ _ _ _ _ _ _ _ _) dX3_addsCarefully_84 (fun H locs hW hS hz => ?_)
          have hW : RW D clz mL a (mct a kc th cn tt (zu ce_7 (72 * st + 24 * lev + 8 * 2 + (mCol 2 hf)) (if thn < ce_7 (72 * st + 24 * lev + 8 * 2 + (mCol 2 hf)) then ce_7 (72 * st + 24 * lev + 8 * 2 + (mCol 2 hf)) else thn)) co it we tk fv) H := hW
          obtain ⟨ce_10, hce_10⟩ : ∃ z, z = zu ce_7 (72 * st + 24 * lev + 8 * 2 + (mCol 2 hf)) (if thn < ce_7 (72 * st + 24 * lev + 8 * 2 + (mCol 2 hf)) then ce_7 (72 * st + 24 * lev + 8 * 2 + (mCol 2 hf)) else thn) := ⟨_, rfl⟩
          rw [← hce_10] at hW
          have bce_10 : ∀ i9 : Int, 0 ≤ ce_10 i9 ∧ ce_10 i9 ≤ 1000000 + 1000 * (lev + 1) := by rw [hce_10]; refine zu_all (P := fun z => 0 ≤ z ∧ z ≤ 1000000 + 1000 * (lev + 1)) bce_7 ?_; have h9 := bce_7 (72 * st + 24 * lev + 8 * 2 + (mCol 2 hf)); split <;> omega
          refine lv_iinc (v := iI 3) (lv' := [(7, .int (iI 3)), (8, .int (iI (72 * st + 24 * lev + 8 * 2 + (mCol 2 hf)))), (6, .int (iI thn)), (5, .int (iI hf)), (0, .ref (a 0)), (1, .int (iI st)), (2, .int (iI item)), (3, .int (iI w)), (4, .int (iI lev))]) hx hb dX3_addsCarefully_85 hl (k := 1) rfl (by decide) (by decide) rfl (fun ls hl => ?_)
          refine lv_goto (tgt := 31) hx hb dX3_addsCarefully_88 (by decide) ?_
          refine lv_iload hx hb dX3_addsCarefully_31 (lv_at hl 0 rfl) ?_
          refine lv_iconst (v := iI 3) hx hb dX3_addsCarefully_33 (by rfl) ?_
          refine z_icmp_ge (tgt := 91) hx hb dX3_addsCarefully_34 (by decide) (by decide) (by decide) (fun _ => ?_) (fun h9 => absurd h9 (by decide))
          refine lv_iinc (v := iI (lev + 1)) (lv' := [(4, .int (iI (lev + 1))), (7, .int (iI 3)), (8, .int (iI (72 * st + 24 * lev + 8 * 2 + (mCol 2 hf)))), (6, .int (iI thn)), (5, .int (iI hf)), (0, .ref (a 0)), (1, .int (iI st)), (2, .int (iI item)), (3, .int (iI w))]) hx hb dX3_addsCarefully_91 hl (k := 8) rfl (iI_add _ _) (by decide) rfl (fun ls hl => ?_)
          refine lv_goto (tgt := 3) hx hb dX3_addsCarefully_94 (by decide) ?_
          exact ih_3 ((lev + 1), ce_10) _ _ (by show (0 ≤ (lev + 1) ∧ (lev + 1) ≤ 3) ∧ (ce_10 = mCare cn st item w ce (lev + 1).toNat) ∧ (∀ i9 : Int, 0 ≤ ce_10 i9 ∧ ce_10 i9 ≤ 1000000 + 1000 * (lev + 1)); exact ⟨by omega, by rw [mCare_s (by omega), ← h2]; unfold mLev mRow; rw [← eqf, ← eqt, ← hce_4, ← hce_7, ← hce_10], by intro i9; have := bce_10 i9; omega⟩) hW hS (by show (3 - (lev + 1)).toNat < (3 - lev).toNat; omega) ls (lv_sub hl [5, 6, 7, 8, 0] rfl)
        · refine lv_aload_n hx hb dX3_addsCarefully_60 rfl (lv_at hl 4 rfl) ?_
          refine w_getf (ci := 0) (v := .ref (a 3)) (C := RX3) (T := TX3) (N := 9) hx hb hts in_X3 hown hK hW 0 (by decide) rfl rfl 3 (by decide) (hts _ q798) (fun _ h9 => h9) rfl dX3_addsCarefully_61 ?_
          refine lv_iload hx hb dX3_addsCarefully_64 (lv_at hl 0 rfl) ?_
          refine w_iald hx hb hK hW 3 0 (by decide) (n := 288) (g := ce_7) rfl rfl (by omega) (by decide) dX3_addsCarefully_66 ?_
          refine lv_iload hx hb dX3_addsCarefully_67 (lv_at hl 2 rfl) ?_
          refine z_icmp_le (tgt := 82) hx hb dX3_addsCarefully_69 (by decide) (by omega) (by omega) (fun c_12 => ?_) (fun c_12 => ?_)
          · refine lv_iload hx hb dX3_addsCarefully_82 (lv_at hl 2 rfl) ?_
            exact j_9f (by omega)
          · refine lv_aload_n hx hb dX3_addsCarefully_72 rfl (lv_at hl 4 rfl) ?_
            refine w_getf (ci := 0) (v := .ref (a 3)) (C := RX3) (T := TX3) (N := 9) hx hb hts in_X3 hown hK hW 0 (by decide) rfl rfl 3 (by decide) (hts _ q798) (fun _ h9 => h9) rfl dX3_addsCarefully_73 ?_
            refine lv_iload hx hb dX3_addsCarefully_76 (lv_at hl 0 rfl) ?_
            refine w_iald hx hb hK hW 3 0 (by decide) (n := 288) (g := ce_7) rfl rfl (by omega) (by decide) dX3_addsCarefully_78 ?_
            refine lv_goto (tgt := 84) hx hb dX3_addsCarefully_79 (by decide) ?_
            exact j_9t (by omega)
      · refine lv_aload_n hx hb dX3_addsCarefully_60 rfl (lv_at hl 4 rfl) ?_
        refine w_getf (ci := 0) (v := .ref (a 3)) (C := RX3) (T := TX3) (N := 9) hx hb hts in_X3 hown hK hW 0 (by decide) rfl rfl 3 (by decide) (hts _ q798) (fun _ h9 => h9) rfl dX3_addsCarefully_61 ?_
        refine lv_iload hx hb dX3_addsCarefully_64 (lv_at hl 0 rfl) ?_
        refine w_iald hx hb hK hW 3 0 (by decide) (n := 288) (g := ce_4) rfl rfl (by omega) (by decide) dX3_addsCarefully_66 ?_
        refine lv_iload hx hb dX3_addsCarefully_67 (lv_at hl 2 rfl) ?_
        refine z_icmp_le (tgt := 82) hx hb dX3_addsCarefully_69 (by decide) (by omega) (by omega) (fun c_13 => ?_) (fun c_13 => ?_)
        · refine lv_iload hx hb dX3_addsCarefully_82 (lv_at hl 2 rfl) ?_
          exact j_6f (by omega)
        · refine lv_aload_n hx hb dX3_addsCarefully_72 rfl (lv_at hl 4 rfl) ?_
          refine w_getf (ci := 0) (v := .ref (a 3)) (C := RX3) (T := TX3) (N := 9) hx hb hts in_X3 hown hK hW 0 (by decide) rfl rfl 3 (by decide) (hts _ q798) (fun _ h9 => h9) rfl dX3_addsCarefully_73 ?_
          refine lv_iload hx hb dX3_addsCarefully_76 (lv_at hl 0 rfl) ?_
          refine w_iald hx hb hK hW 3 0 (by decide) (n := 288) (g := ce_4) rfl rfl (by omega) (by decide) dX3_addsCarefully_78 ?_
          refine lv_goto (tgt := 84) hx hb dX3_addsCarefully_79 (by decide) ?_
          exact j_6t (by omega)
    · refine lv_aload_n hx hb dX3_addsCarefully_60 rfl (lv_at hl 4 rfl) ?_
      refine w_getf (ci := 0) (v := .ref (a 3)) (C := RX3) (T := TX3) (N := 9) hx hb hts in_X3 hown hK hW 0 (by decide) rfl rfl 3 (by decide) (hts _ q798) (fun _ h9 => h9) rfl dX3_addsCarefully_61 ?_
      refine lv_iload hx hb dX3_addsCarefully_64 (lv_at hl 0 rfl) ?_
      refine w_iald hx hb hK hW 3 0 (by decide) (n := 288) (g := ce1) rfl rfl (by omega) (by decide) dX3_addsCarefully_66 ?_
      refine lv_iload hx hb dX3_addsCarefully_67 (lv_at hl 2 rfl) ?_
      refine z_icmp_le (tgt := 82) hx hb dX3_addsCarefully_69 (by decide) (by omega) (by omega) (fun c_14 => ?_) (fun c_14 => ?_)
      · refine lv_iload hx hb dX3_addsCarefully_82 (lv_at hl 2 rfl) ?_
        exact j_3f (by omega)
      · refine lv_aload_n hx hb dX3_addsCarefully_72 rfl (lv_at hl 4 rfl) ?_
        refine w_getf (ci := 0) (v := .ref (a 3)) (C := RX3) (T := TX3) (N := 9) hx hb hts in_X3 hown hK hW 0 (by decide) rfl rfl 3 (by decide) (hts _ q798) (fun _ h9 => h9) rfl dX3_addsCarefully_73 ?_
        refine lv_iload hx hb dX3_addsCarefully_76 (lv_at hl 0 rfl) ?_
        refine w_iald hx hb hK hW 3 0 (by decide) (n := 288) (g := ce1) rfl rfl (by omega) (by decide) dX3_addsCarefully_78 ?_
        refine lv_goto (tgt := 84) hx hb dX3_addsCarefully_79 (by decide) ?_
        exact j_3t (by omega)

/-! CountcoteModel, third part: the counters -/
/-- where an item stands among the first n counters of a stream; -1: nowhere -/
def mFind (it : Int → Int) (st item : Int) : Nat → Int
  | 0 => -1
  | n + 1 => if it (8 * st + n) = item then n else mFind it st item n
theorem mFind_s {it : Int → Int} {st item k : Int} (h : 0 ≤ k) : mFind it st item (k + 1).toNat = if it (8 * st + k) = item then k else mFind it st item k.toNat := by
  rw [show (k + 1).toNat = k.toNat + 1 by omega]
  show (if it (8 * st + ((k.toNat : Nat) : Int)) = item then ((k.toNat : Nat) : Int) else _) = _
  rw [show ((k.toNat : Nat) : Int) = k by omega]
theorem mFind_r (it : Int → Int) (st item : Int) : ∀ n : Nat, -1 ≤ mFind it st item n ∧ mFind it st item n < n := by
  intro n
  induction n with
  | zero => exact ⟨by simp [mFind], by simp [mFind]⟩
  | succ n ih =>
    show -1 ≤ (if it (8 * st + n) = item then (n : Int) else mFind it st item n) ∧ (if it (8 * st + n) = item then (n : Int) else mFind it st item n) < _
    split <;> omega
/-- a number is taken from the first n counters; what is left of them: how many, their items, their weights -/
def mTk (st num : Int) (it we : Int → Int) : Nat → Int × (Int → Int) × (Int → Int)
  | 0 => (0, it, we)
  | n + 1 => ((mTk st num it we n).1 + (if 0 < we (8 * st + n) - num then 1 else 0), zu (mTk st num it we n).2.1 (8 * st + (mTk st num it we n).1) ((mTk st num it we n).2.1 (8 * st + n)), zu (mTk st num it we n).2.2 (8 * st + (mTk st num it we n).1) (we (8 * st + n) - num))
theorem mTk_s {st num : Int} {it we : Int → Int} {k : Int} (h : 0 ≤ k) : mTk st num it we (k + 1).toNat = ((mTk st num it we k.toNat).1 + (if 0 < we (8 * st + k) - num then 1 else 0), zu (mTk st num it we k.toNat).2.1 (8 * st + (mTk st num it we k.toNat).1) ((mTk st num it we k.toNat).2.1 (8 * st + k)), zu (mTk st num it we k.toNat).2.2 (8 * st + (mTk st num it we k.toNat).1) (we (8 * st + k) - num)) := by
  rw [show (k + 1).toNat = k.toNat + 1 by omega]
  show ((mTk st num it we k.toNat).1 + (if 0 < we (8 * st + ((k.toNat : Nat) : Int)) - num then 1 else 0), zu (mTk st num it we k.toNat).2.1 (8 * st + (mTk st num it we k.toNat).1) ((mTk st num it we k.toNat).2.1 (8 * st + ((k.toNat : Nat) : Int))), zu (mTk st num it we k.toNat).2.2 (8 * st + (mTk st num it we k.toNat).1) (we (8 * st + ((k.toNat : Nat) : Int)) - num)) = _
  rw [show ((k.toNat : Nat) : Int) = k by omega]
theorem mTk_r (st num : Int) (it we : Int → Int) : ∀ n : Nat, 0 ≤ (mTk st num it we n).1 ∧ (mTk st num it we n).1 ≤ n := by
  intro n
  induction n with
  | zero => exact ⟨by simp [mTk], by simp [mTk]⟩
  | succ n ih =>
    show 0 ≤ (mTk st num it we n).1 + (if 0 < we (8 * st + n) - num then 1 else 0) ∧ (mTk st num it we n).1 + (if 0 < we (8 * st + n) - num then 1 else 0) ≤ _
    split <;> omega
/-- the counters' cells: how many, items, weights, taken -/
abbrev mQ : Type := (Int → Int) × (Int → Int) × (Int → Int) × (Int → Int)
def mTakes (st num : Int) (q : mQ) : mQ := (zu q.1 st (mTk st num q.2.1 q.2.2.1 (q.1 st).toNat).1, (mTk st num q.2.1 q.2.2.1 (q.1 st).toNat).2.1, (mTk st num q.2.1 q.2.2.1 (q.1 st).toNat).2.2, zu q.2.2.2 st (q.2.2.2 st + num))
def mOpens (st item w : Int) (q : mQ) : mQ := (zu q.1 st (q.1 st + 1), zu q.2.1 (8 * st + q.1 st) item, zu q.2.2.1 (8 * st + q.1 st) w, q.2.2.2)
def mLeast (we : Int → Int) (st w : Int) : Int := zmin (we (8 * st + 3)) (zmin (we (8 * st + 2)) (zmin (we (8 * st + 1)) (zmin (we (8 * st + 0)) w)))
/-- an item's weight comes to the counters -/
def mAddC (st item w : Int) (q : mQ) : mQ :=
  if ¬ mFind q.2.1 st item (q.1 st).toNat = -1 then (q.1, q.2.1, zu q.2.2.1 (8 * st + mFind q.2.1 st item (q.1 st).toNat) (q.2.2.1 (8 * st + mFind q.2.1 st item (q.1 st).toNat) + w), q.2.2.2)
  else if q.1 st = 4 then (if 0 < w - mLeast q.2.2.1 st w then mOpens st item (w - mLeast q.2.2.1 st w) (mTakes st (mLeast q.2.2.1 st w) q) else mTakes st (mLeast q.2.2.1 st w) q)
  else mOpens st item w q
def mGt (we : Int → Int) (st x : Int) : Nat → Int
  | 0 => 0
  | n + 1 => mGt we st x n + (if x < we (8 * st + n) then 1 else 0)
def mEq (we : Int → Int) (st x : Int) : Nat → Int
  | 0 => 0
  | n + 1 => mEq we st x n + (if we (8 * st + n) = x then 1 else 0)
theorem mGt_s {we : Int → Int} {st x k : Int} (h : 0 ≤ k) : mGt we st x (k + 1).toNat = mGt we st x k.toNat + (if x < we (8 * st + k) then 1 else 0) := by
  rw [show (k + 1).toNat = k.toNat + 1 by omega]
  show mGt we st x k.toNat + (if x < we (8 * st + ((k.toNat : Nat) : Int)) then 1 else 0) = _
  rw [show ((k.toNat : Nat) : Int) = k by omega]
theorem mEq_s {we : Int → Int} {st x k : Int} (h : 0 ≤ k) : mEq we st x (k + 1).toNat = mEq we st x k.toNat + (if we (8 * st + k) = x then 1 else 0) := by
  rw [show (k + 1).toNat = k.toNat + 1 by omega]
  show mEq we st x k.toNat + (if we (8 * st + ((k.toNat : Nat) : Int)) = x then 1 else 0) = _
  rw [show ((k.toNat : Nat) : Int) = k by omega]
/-- the weight that is the fifth by size -/
def mFif (we : Int → Int) (st : Int) (N : Nat) : Nat → Int
  | 0 => 0
  | n + 1 => if mGt we st (we (8 * st + n)) N ≤ 4 ∧ 4 < mGt we st (we (8 * st + n)) N + mEq we st (we (8 * st + n)) N then we (8 * st + n) else mFif we st N n
theorem mFif_s {we : Int → Int} {st : Int} {N : Nat} {k : Int} (h : 0 ≤ k) : mFif we st N (k + 1).toNat = if mGt we st (we (8 * st + k)) N ≤ 4 ∧ 4 < mGt we st (we (8 * st + k)) N + mEq we st (we (8 * st + k)) N then we (8 * st + k) else mFif we st N k.toNat := by
  rw [show (k + 1).toNat = k.toNat + 1 by omega]
  show (if mGt we st (we (8 * st + ((k.toNat : Nat) : Int))) N ≤ 4 ∧ 4 < mGt we st (we (8 * st + ((k.toNat : Nat) : Int))) N + mEq we st (we (8 * st + ((k.toNat : Nat) : Int))) N then we (8 * st + ((k.toNat : Nat) : Int)) else _) = _
  rw [show ((k.toNat : Nat) : Int) = k by omega]
theorem mFif_b {we : Int → Int} {st : Int} {N : Nat} {B : Int} (hB : 0 ≤ B) : ∀ n : Nat, (∀ j : Int, 0 ≤ j → j < n → 0 ≤ we (8 * st + j) ∧ we (8 * st + j) ≤ B) → 0 ≤ mFif we st N n ∧ mFif we st N n ≤ B := by
  intro n
  induction n with
  | zero => intro _; exact ⟨Int.le_refl _, hB⟩
  | succ n ih =>
    intro h
    have h1 := h n (by omega) (by omega)
    have h2 := ih (fun j a b => h j a (by omega))
    simp only [mFif]
    split
    · exact h1
    · exact h2
/-- the first n counters of a stream come to another one's -/
def mMg (st ot : Int) (q : mQ) : Nat → mQ
  | 0 => q
  | n + 1 => if mFind (mMg st ot q n).2.1 st ((mMg st ot q n).2.1 (8 * ot + n)) ((mMg st ot q n).1 st).toNat = -1 then mOpens st ((mMg st ot q n).2.1 (8 * ot + n)) ((mMg st ot q n).2.2.1 (8 * ot + n)) (mMg st ot q n)
    else ((mMg st ot q n).1, (mMg st ot q n).2.1, zu (mMg st ot q n).2.2.1 (8 * st + mFind (mMg st ot q n).2.1 st ((mMg st ot q n).2.1 (8 * ot + n)) ((mMg st ot q n).1 st).toNat) ((mMg st ot q n).2.2.1 (8 * st + mFind (mMg st ot q n).2.1 st ((mMg st ot q n).2.1 (8 * ot + n)) ((mMg st ot q n).1 st).toNat) + (mMg st ot q n).2.2.1 (8 * ot + n)), (mMg st ot q n).2.2.2)
def mMgS (st ot k : Int) (r : mQ) : mQ := if mFind r.2.1 st (r.2.1 (8 * ot + k)) (r.1 st).toNat = -1 then mOpens st (r.2.1 (8 * ot + k)) (r.2.2.1 (8 * ot + k)) r
    else (r.1, r.2.1, zu r.2.2.1 (8 * st + mFind r.2.1 st (r.2.1 (8 * ot + k)) (r.1 st).toNat) (r.2.2.1 (8 * st + mFind r.2.1 st (r.2.1 (8 * ot + k)) (r.1 st).toNat) + r.2.2.1 (8 * ot + k)), r.2.2.2)
theorem mMg_s {st ot : Int} {q : mQ} {k : Int} (h : 0 ≤ k) : mMg st ot q (k + 1).toNat = mMgS st ot k (mMg st ot q k.toNat) := by
  rw [show (k + 1).toNat = k.toNat + 1 by omega]
  show mMgS st ot ((k.toNat : Nat) : Int) (mMg st ot q k.toNat) = _
  rw [show ((k.toNat : Nat) : Int) = k by omega]
/-- all of it: the counters come together, and the fifth by size is taken where there are more than four -/
def mMgT (st ot : Int) (q : mQ) : mQ := ((mMg st ot q (q.1 ot).toNat).1, (mMg st ot q (q.1 ot).toNat).2.1, (mMg st ot q (q.1 ot).toNat).2.2.1, zu q.2.2.2 st (q.2.2.2 st + q.2.2.2 ot))
def mMgC (st ot : Int) (q : mQ) : mQ := if 4 < (mMgT st ot q).1 st then mTakes st (mFif (mMgT st ot q).2.2.1 st ((mMgT st ot q).1 st).toNat ((mMgT st ot q).1 st).toNat) (mMgT st ot q) else mMgT st ot q
set_option maxHeartbeats 4000000 in
set_option maxRecDepth 100000 in
theorem kX3_placeOfCounter (l : Launch) (D : va_G) (a : Nat → Nat) (kc : Nat → ClassId) (th : Int) (cn tt ce co it we tk fv : Int → Int) (st item : Int) (hst : 0 ≤ st ∧ st < 4) (hi : 0 ≤ item ∧ item ≤ 63) (hco : 0 ≤ co st ∧ co st ≤ 8) (hit : ∀ i9 : Int, 0 ≤ it i9 ∧ it i9 ≤ 63) : Met l yX3_placeOfCounter (ws_ yX3_placeOfCounter cX3_placeOfCounter 5 (some .int)) ({ frames := 12, cells := 0, slots := 0, locals := 160 }) (va_Pc [.ref (a 0), .int (iI st), .int (iI item)] (mR D a kc th cn tt ce co it we tk fv)) (vp_Si (fun r => r = iI (mFind it st item (co st).toNat))) 0 0 (fun _ => False) := by
  refine Met.ofW (cc := cX3_placeOfCounter) (maxL := 5) (ret := (some .int)) (by decide) rfl ?_
  intro p e s m args below meth c s₁ B hml hv
  obtain ⟨rfl, hW, hK⟩ := hv
  have hx := B.exec
  have hb := B.bytes
  have hr := B.returns
  have hlk := B.notSynchronized
  have hts := atoms_spec (ws := (ws_ yX3_placeOfCounter cX3_placeOfCounter 5 (some .int))) B.pre
  have hts : ∀ w ∈ lw_all, w.before _ s = true := fun w h => hts w (List.mem_cons_of_mem _ h)
  have hown : s.vm.findClass RX3 = some m.cls := findClass_of_methodNamed B.named
  have hl := lv_entry ([.ref (a 0), .int (iI st), .int (iI item)]) (n := 5) (Nat.le_of_ble_eq_true rfl)
  rw [lg_entry_eq]
  generalize (lg_sl ([.ref (a 0), .int (iI st), .int (iI item)]) ++ List.replicate (5 - (lg_sl ([.ref (a 0), .int (iI st), .int (iI item)])).length) Slot.unset).toArray = ls at hl ⊢
  have hl : lv_has ls 5 [(0, .ref (a 0)), (1, .int (iI st)), (2, .int (iI item))] := hl
  refine lv_iconst (v := iI (-1)) hx hb dX3_placeOfCounter_0 (by rfl) ?_
  refine lv_istore_n (lv' := [(3, .int (iI (-1))), (0, .ref (a 0)), (1, .int (iI st)), (2, .int (iI item))]) hx hb dX3_placeOfCounter_1 rfl hl (by decide) rfl (fun ls hl => ?_)
  refine lv_iconst (v := iI 0) hx hb dX3_placeOfCounter_2 (by rfl) ?_
  refine lv_istore (lv' := [(4, .int (iI 0)), (3, .int (iI (-1))), (0, .ref (a 0)), (1, .int (iI st)), (2, .int (iI item))]) hx hb dX3_placeOfCounter_3 hl (by decide) rfl (fun ls hl => ?_)
  refine z_loopR (σ := Int × Int) (fun x9 => [(0, .ref (a 0)), (1, .int (iI st)), (2, .int (iI item)), (3, .int (iI x9.2)), (4, .int (iI x9.1))]) (fun x9 => (0 ≤ x9.1 ∧ x9.1 ≤ co st) ∧ (x9.2 = mFind it st item x9.1.toNat)) (fun x9 => (co st - x9.1).toNat) ?_ (0, (-1)) (by show (0 ≤ (0 : Int) ∧ (0 : Int) ≤ co st) ∧ ((-1 : Int) = mFind it st item (0 : Int).toNat); exact ⟨by omega, rfl⟩) (lv_sub hl [2, 3, 4, 1, 0] rfl)
  rintro ⟨k, fd⟩ hI9 ih_5 ls hl
  have hI9 : (0 ≤ k ∧ k ≤ co st) ∧ (fd = mFind it st item k.toNat) := hI9
  obtain ⟨h1, h2⟩ := hI9
  have hl : lv_has ls 5 [(0, .ref (a 0)), (1, .int (iI st)), (2, .int (iI item)), (3, .int (iI fd)), (4, .int (iI k))] := hl
  refine lv_iload hx hb dX3_placeOfCounter_5 (lv_at hl 4 rfl) ?_
  refine lv_aload_n hx hb dX3_placeOfCounter_7 rfl (lv_at hl 0 rfl) ?_
  refine w_getf (ci := 0) (v := .ref (a 4)) (C := RX3) (T := TX3) (N := 9) hx hb hts in_X3 hown hK hW 0 (by decide) rfl rfl 4 (by decide) (hts _ q799) (fun _ h9 => h9) rfl dX3_placeOfCounter_8 ?_
  refine lv_iload_n hx hb dX3_placeOfCounter_11 rfl (lv_at hl 1 rfl) ?_
  refine w_iald hx hb hK hW 4 0 (by decide) (n := 4) (g := co) rfl rfl (by omega) (by decide) dX3_placeOfCounter_12 ?_
  refine z_icmp_ge (tgt := 45) hx hb dX3_placeOfCounter_13 (by decide) (by omega) (by omega) (fun c_1 => ?_) (fun c_1 => ?_)
  · refine lv_iload_n hx hb dX3_placeOfCounter_45 rfl (lv_at hl 3 rfl) ?_
    exact z_retS hx hb hr hlk (by rw [h2]; congr 2; omega) dX3_placeOfCounter_46
  · have hb9 := hit (8 * st + k)
    refine z_dia (P := it (8 * st + k) = item) (x := k) (y := fd) (pcM := 38) (ls := ls) (rest := []) ?_ (fun j_2t j_2f => ?_)
    · refine lv_istore_n (lv' := [(3, .int (iI (if it (8 * st + k) = item then k else fd))), (0, .ref (a 0)), (1, .int (iI st)), (2, .int (iI item)), (4, .int (iI k))]) hx hb dX3_placeOfCounter_38 rfl hl (by decide) rfl (fun ls hl => ?_)
      refine lv_iinc (v := iI (k + 1)) (lv' := [(4, .int (iI (k + 1))), (3, .int (iI (if it (8 * st + k) = item then k else fd))), (0, .ref (a 0)), (1, .int (iI st)), (2, .int (iI item))]) hx hb dX3_placeOfCounter_39 hl (k := 4) rfl (iI_add _ _) (by decide) rfl (fun ls hl => ?_)
      refine lv_goto (tgt := 5) hx hb dX3_placeOfCounter_42 (by decide) ?_
      exact ih_5 ((k + 1), ((if it (8 * st + k) = item then k else fd))) (by show (0 ≤ (k + 1) ∧ (k + 1) ≤ co st) ∧ ((if it (8 * st + k) = item then k else fd) = mFind it st item (k + 1).toNat); exact ⟨by omega, by rw [mFind_s (by omega), h2]⟩) (by show (co st - (k + 1)).toNat < (co st - k).toNat; omega) ls (lv_sub hl [2, 3, 4, 1, 0] rfl)
    · refine lv_aload_n hx hb dX3_placeOfCounter_16 rfl (lv_at hl 0 rfl) ?_
      refine w_getf (ci := 0) (v := .ref (a 5)) (C := RX3) (T := TX3) (N := 9) hx hb hts in_X3 hown hK hW 0 (by decide) rfl rfl 5 (by decide) (hts _ q800) (fun _ h9 => h9) rfl dX3_placeOfCounter_17 ?_
      refine lv_bipush (v := iI 8) hx hb dX3_placeOfCounter_20 (by rfl) ?_
      refine lv_iload_n hx hb dX3_placeOfCounter_22 rfl (lv_at hl 1 rfl) ?_
      refine z_imul hx hb dX3_placeOfCounter_23 ?_
      refine lv_iload hx hb dX3_placeOfCounter_24 (lv_at hl 4 rfl) ?_
      refine z_iadd hx hb dX3_placeOfCounter_26 ?_
      refine w_iald hx hb hK hW 5 0 (by decide) (n := 32) (g := it) rfl rfl (by omega) (by decide) dX3_placeOfCounter_27 ?_
      refine lv_iload_n hx hb dX3_placeOfCounter_28 rfl (lv_at hl 2 rfl) ?_
      refine z_icmp_ne (tgt := 37) hx hb dX3_placeOfCounter_29 (by decide) (by omega) (by omega) (fun c_3 => ?_) (fun c_3 => ?_)
      · refine lv_iload_n hx hb dX3_placeOfCounter_37 rfl (lv_at hl 3 rfl) ?_
        exact j_2f (by omega)
      · refine lv_iload hx hb dX3_placeOfCounter_32 (lv_at hl 4 rfl) ?_
        refine lv_goto (tgt := 38) hx hb dX3_placeOfCounter_34 (by decide) ?_
        exact j_2t (by omega)
set_option maxHeartbeats 4000000 in
set_option maxRecDepth 100000 in
theorem kX3_takes (l : Launch) (D : va_G) (a : Nat → Nat) (kc : Nat → ClassId) (th : Int) (cn tt ce co it we tk fv : Int → Int) (sz : Nat) (st num : Int) (hst : 0 ≤ st ∧ st < 4) (hco : 0 ≤ co st ∧ co st ≤ 8) (hwe : ∀ j9 : Int, 0 ≤ j9 → j9 < co st → 0 ≤ we (8 * st + j9) ∧ we (8 * st + j9) ≤ 100000000) (hn : 0 ≤ num ∧ num ≤ 100000000) : Met l yX3_takes (ws_ yX3_takes cX3_takes 6 none) ({ frames := 12, cells := 0, slots := 0, locals := 160 }) (va_Pc [.ref (a 0), .int (iI st), .int (iI num)] (mW D a kc th cn tt ce co it we tk fv sz)) (va_Qv (fun (_ : Unit) => True) (fun (_ : Unit) t8 => RW D clz mL a (mct a kc th cn tt ce ((mTakes st num (co, it, we, tk)).1) ((mTakes st num (co, it, we, tk)).2.1) ((mTakes st num (co, it, we, tk)).2.2.1) ((mTakes st num (co, it, we, tk)).2.2.2) fv) t8.heap) (RA mL a sz)) 0 0 (RA mL a sz) := by
  refine Met.ofW (cc := cX3_takes) (maxL := 6) (ret := none) (by decide) rfl ?_
  intro p e s m args below meth c s₁ B hml hv
  obtain ⟨rfl, hsz, hW, hK, hJ0⟩ := hv
  subst hsz
  have hJ := hJ0.self (sz := s.heap.size)
  have hS : va_S (RA mL a s.heap.size) s.heap s.heap [] := va_S.rf
  have hx := B.exec
  have hb := B.bytes
  have hr := B.returns
  have hlk := B.notSynchronized
  have hts := atoms_spec (ws := (ws_ yX3_takes cX3_takes 6 none)) B.pre
  have hts : ∀ w ∈ lw_all, w.before _ s = true := fun w h => hts w (List.mem_cons_of_mem _ h)
  have hown : s.vm.findClass RX3 = some m.cls := findClass_of_methodNamed B.named
  have hl := lv_entry ([.ref (a 0), .int (iI st), .int (iI num)]) (n := 6) (Nat.le_of_ble_eq_true rfl)
  rw [lg_entry_eq]
  generalize (lg_sl ([.ref (a 0), .int (iI st), .int (iI num)]) ++ List.replicate (6 - (lg_sl ([.ref (a 0), .int (iI st), .int (iI num)])).length) Slot.unset).toArray = ls at hl ⊢
  have hl : lv_has ls 6 [(0, .ref (a 0)), (1, .int (iI st)), (2, .int (iI num))] := hl
  refine lv_iconst (v := iI 0) hx hb dX3_takes_0 (by rfl) ?_
  refine lv_istore_n (lv' := [(3, .int (iI 0)), (0, .ref (a 0)), (1, .int (iI st)), (2, .int (iI num))]) hx hb dX3_takes_1 rfl hl (by decide) rfl (fun ls hl => ?_)
  refine lv_iconst (v := iI 0) hx hb dX3_takes_2 (by rfl) ?_
  refine lv_istore (lv' := [(4, .int (iI 0)), (3, .int (iI 0)), (0, .ref (a 0)), (1, .int (iI st)), (2, .int (iI num))]) hx hb dX3_takes_3 hl (by decide) rfl (fun ls hl => ?_)
  refine z_loopW (σ := Int × Int × (Int → Int) × (Int → Int)) (fun x9 => [(0, .ref (a 0)), (1, .int (iI st)), (2, .int (iI num)), (3, .int (iI x9.2.1)), (4, .int (iI x9.1))]) (fun x9 => (0 ≤ x9.1 ∧ x9.1 ≤ co st) ∧ (0 ≤ x9.2.1 ∧ x9.2.1 ≤ x9.1) ∧ ((x9.2.1, x9.2.2.1, x9.2.2.2) = mTk st num it we x9.1.toNat) ∧ (∀ j9 : Int, 8 * st + x9.1 ≤ j9 → x9.2.2.2 j9 = we j9)) (fun x9 H9 => RW D clz mL a (mct a kc th cn tt ce co x9.2.2.1 x9.2.2.2 tk fv) H9) (fun x9 => (co st - x9.1).toNat) ?_ (0, 0, it, we) (by show (0 ≤ (0 : Int) ∧ (0 : Int) ≤ co st) ∧ (0 ≤ (0 : Int) ∧ (0 : Int) ≤ (0 : Int)) ∧ (((0 : Int), it, we) = mTk st num it we (0 : Int).toNat) ∧ (∀ j9 : Int, 8 * st + (0 : Int) ≤ j9 → we j9 = we j9); exact ⟨by omega, by omega, rfl, fun _ _ => rfl⟩) hW hS (lv_sub hl [2, 3, 4, 1, 0] rfl)
  rintro ⟨k, kp, it1, we1⟩ H locs hI9 hW hS ih_5 ls hl
  have hI9 : (0 ≤ k ∧ k ≤ co st) ∧ (0 ≤ kp ∧ kp ≤ k) ∧ ((kp, it1, we1) = mTk st num it we k.toNat) ∧ (∀ j9 : Int, 8 * st + k ≤ j9 → we1 j9 = we j9) := hI9
  obtain ⟨h1, h2, h3, h4⟩ := hI9
  have hl : lv_has ls 6 [(0, .ref (a 0)), (1, .int (iI st)), (2, .int (iI num)), (3, .int (iI kp)), (4, .int (iI k))] := hl
  have hW : RW D clz mL a (mct a kc th cn tt ce co it1 we1 tk fv) H := hW
  refine lv_iload hx hb dX3_takes_5 (lv_at hl 4 rfl) ?_
  refine lv_aload_n hx hb dX3_takes_7 rfl (lv_at hl 0 rfl) ?_
  refine w_getf (ci := 0) (v := .ref (a 4)) (C := RX3) (T := TX3) (N := 9) hx hb hts in_X3 hown hK hW 0 (by decide) rfl rfl 4 (by decide) (hts _ q799) (fun _ h9 => h9) rfl dX3_takes_8 ?_
  refine lv_iload_n hx hb dX3_takes_11 rfl (lv_at hl 1 rfl) ?_
  refine w_iald hx hb hK hW 4 0 (by decide) (n := 4) (g := co) rfl rfl (by omega) (by decide) dX3_takes_12 ?_
  refine z_icmp_ge (tgt := 87) hx hb dX3_takes_13 (by decide) (by omega) (by omega) (fun c_1 => ?_) (fun c_1 => ?_)
  · have hk : k = co st := by omega
    rw [hk] at h3
    have e1 : kp = (mTk st num it we (co st).toNat).1 := congrArg (fun z => z.1) h3
    have e2 : it1 = (mTk st num it we (co st).toNat).2.1 := congrArg (fun z => z.2.1) h3
    have e3 : we1 = (mTk st num it we (co st).toNat).2.2 := congrArg (fun z => z.2.2) h3
    subst e1
    subst e2
    subst e3
    refine lv_aload_n hx hb dX3_takes_87 rfl (lv_at hl 0 rfl) ?_
    refine w_getf (ci := 0) (v := .ref (a 4)) (C := RX3) (T := TX3) (N := 9) hx hb hts in_X3 hown hK hW 0 (by decide) rfl rfl 4 (by decide) (hts _ q799) (fun _ h9 => h9) rfl dX3_takes_88 ?_
    refine lv_iload_n hx hb dX3_takes_91 rfl (lv_at hl 1 rfl) ?_
    refine lv_iload_n hx hb dX3_takes_92 rfl (lv_at hl 3 rfl) ?_
    refine w_iast hx hb hK hW hJ hS 4 0 (by decide) (n := 4) (g := co) rfl rfl (by omega) (by decide) (mct_4 _ _ _ _ _ _ _ _ _ _ _ _) dX3_takes_93 (fun H locs hW hS hz => ?_)
    have hW : RW D clz mL a (mct a kc th cn tt ce (zu co st ((mTk st num it we (co st).toNat).1)) ((mTk st num it we (co st).toNat).2.1) ((mTk st num it we (co st).toNat).2.2) tk fv) H := hW
    refine lv_aload_n hx hb dX3_takes_94 rfl (lv_at hl 0 rfl) ?_
    refine w_getf (ci := 0) (v := .ref (a 7)) (C := RX3) (T := TX3) (N := 9) hx hb hts in_X3 hown hK hW 0 (by decide) rfl rfl 7 (by decide) (hts _ q802) (fun _ h9 => h9) rfl dX3_takes_95 ?_
    refine lv_iload_n hx hb dX3_takes_98 rfl (lv_at hl 1 rfl) ?_
    refine lv_dup2_11 hx hb dX3_takes_99 rfl rfl ?_
    refine w_iald hx hb hK hW 7 0 (by decide) (n := 4) (g := tk) rfl rfl (by omega) (by decide) dX3_takes_100 ?_
    refine lv_iload_n hx hb dX3_takes_101 rfl (lv_at hl 2 rfl) ?_
    refine z_iadd hx hb dX3_takes_102 ?_
    refine w_iast hx hb hK hW hJ hS 7 0 (by decide) (n := 4) (g := tk) rfl rfl (by omega) (by decide) (mct_7 _ _ _ _ _ _ _ _ _ _ _ _) dX3_takes_103 (fun H locs hW hS hz => ?_)
    have hW : RW D clz mL a (mct a kc th cn tt ce (zu co st ((mTk st num it we (co st).toNat).1)) ((mTk st num it we (co st).toNat).2.1) ((mTk st num it we (co st).toNat).2.2) (zu tk st ((tk st) + num)) fv) H := hW
    exact z_retWv hx hb hr hlk hW hS dX3_takes_104
  · have hw9 := hwe k (by omega) (by omega)
    have hw8 := h4 (8 * st + k) (by omega)
    refine lv_aload_n hx hb dX3_takes_16 rfl (lv_at hl 0 rfl) ?_
    refine w_getf (ci := 0) (v := .ref (a 6)) (C := RX3) (T := TX3) (N := 9) hx hb hts in_X3 hown hK hW 0 (by decide) rfl rfl 6 (by decide) (hts _ q801) (fun _ h9 => h9) rfl dX3_takes_17 ?_
    refine lv_bipush (v := iI 8) hx hb dX3_takes_20 (by rfl) ?_
    refine lv_iload_n hx hb dX3_takes_22 rfl (lv_at hl 1 rfl) ?_
    refine z_imul hx hb dX3_takes_23 ?_
    refine lv_iload hx hb dX3_takes_24 (lv_at hl 4 rfl) ?_
    refine z_iadd hx hb dX3_takes_26 ?_
    refine w_iald hx hb hK hW 6 0 (by decide) (n := 32) (g := we1) rfl rfl (by omega) (by decide) dX3_takes_27 ?_
    refine lv_iload_n hx hb dX3_takes_28 rfl (lv_at hl 2 rfl) ?_
    refine z_isub hx hb dX3_takes_29 ?_
    refine z_as (we (8 * st + k) - num) (by rw [hw8]) ?_
    refine z_top (fun lf e_lf => ?_)
    refine lv_istore (lv' := [(5, .int (iI lf)), (0, .ref (a 0)), (1, .int (iI st)), (2, .int (iI num)), (3, .int (iI kp)), (4, .int (iI k))]) hx hb dX3_takes_30 hl (by decide) rfl (fun ls hl => ?_)
    refine lv_aload_n hx hb dX3_takes_32 rfl (lv_at hl 1 rfl) ?_
    refine w_getf (ci := 0) (v := .ref (a 5)) (C := RX3) (T := TX3) (N := 9) hx hb hts in_X3 hown hK hW 0 (by decide) rfl rfl 5 (by decide) (hts _ q800) (fun _ h9 => h9) rfl dX3_takes_33 ?_
    refine lv_bipush (v := iI 8) hx hb dX3_takes_36 (by rfl) ?_
    refine lv_iload_n hx hb dX3_takes_38 rfl (lv_at hl 2 rfl) ?_
    refine z_imul hx hb dX3_takes_39 ?_
    refine lv_iload_n hx hb dX3_takes_40 rfl (lv_at hl 4 rfl) ?_
    refine z_iadd hx hb dX3_takes_41 ?_
    refine lv_aload_n hx hb dX3_takes_42 rfl (lv_at hl 1 rfl) ?_
    refine w_getf (ci := 0) (v := .ref (a 5)) (C := RX3) (T := TX3) (N := 9) hx hb hts in_X3 hown hK hW 0 (by decide) rfl rfl 5 (by decide) (hts _ q800) (fun _ h9 => h9) rfl dX3_takes_43 ?_
    refine lv_bipush (v := iI 8) hx hb dX3_takes_46 (by rfl) ?_
    refine lv_iload_n hx hb dX3_takes_48 rfl (lv_at hl 2 rfl) ?_
    refine z_imul hx hb dX3_takes_49 ?_
    refine lv_iload hx hb dX3_takes_50 (lv_at hl 5 rfl) ?_
    refine z_iadd hx hb dX3_takes_52 ?_
    refine w_iald hx hb hK hW 5 0 (by decide) (n := 32) (g := it1) rfl rfl (by omega) (by decide) dX3_takes_53 ?_
    refine w_iast hx hb hK hW hJ hS 5 0 (by decide) (n := 32) (g := it1) rfl rfl (by omega) (by decide) (mct_5 _ _ _ _ _ _ _ _ _ _ _ _) dX3_takes_54 (fun H locs hW hS hz => ?_)
    have hW : RW D clz mL a (mct a kc th cn tt ce co (zu it1 ((8 * st) + kp) (it1 ((8 * st) + k))) we1 tk fv) H := hW
    refine lv_aload_n hx hb dX3_takes_55 rfl (lv_at hl 1 rfl) ?_
    refine w_getf (ci := 0) (v := .ref (a 6)) (C := RX3) (T := TX3) (N := 9) hx hb hts in_X3 hown hK hW 0 (by decide) rfl rfl 6 (by decide) (hts _ q801) (fun _ h9 => h9) rfl dX3_takes_56 ?_
    refine lv_bipush (v := iI 8) hx hb dX3_takes_59 (by rfl) ?_
    refine lv_iload_n hx hb dX3_takes_61 rfl (lv_at hl 2 rfl) ?_
    refine z_imul hx hb dX3_takes_62 ?_
    refine lv_iload_n hx hb dX3_takes_63 rfl (lv_at hl 4 rfl) ?_
    refine z_iadd hx hb dX3_takes_64 ?_
    refine lv_iload hx hb dX3_takes_65 (lv_at hl 0 rfl) ?_
    refine w_iast hx hb hK hW hJ hS 6 0 (by decide) (n := 32) (g := we1) rfl rfl (by omega) (by decide) (mct_6 _ _ _ _ _ _ _ _ _ _ _ _) dX3_takes_67 (fun H locs hW hS hz => ?_)
    have hW : RW D clz mL a (mct a kc th cn tt ce co (zu it1 ((8 * st) + kp) (it1 ((8 * st) + k))) (zu we1 ((8 * st) + kp) lf) tk fv) H := hW
    refine lv_iload_n hx hb dX3_takes_68 rfl (lv_at hl 4 rfl) ?_
    refine z_dia (P := 0 < lf) (x := 1) (y := 0) (pcM := 79) (ls := ls) (rest := [.int (iI kp)]) ?_ (fun j_2t j_2f => ?_)
    · refine z_iadd hx hb dX3_takes_79 ?_
      refine lv_istore_n (lv' := [(3, .int (iI (kp + (if 0 < lf then 1 else 0)))), (5, .int (iI lf)), (0, .ref (a 0)), (1, .int (iI st)), (2, .int (iI num)), (4, .int (iI k))]) hx hb dX3_takes_80 rfl hl (by decide) rfl (fun ls hl => ?_)
      refine lv_iinc (v := iI (k + 1)) (lv' := [(4, .int (iI (k + 1))), (3, .int (iI (kp + (if 0 < lf then 1 else 0)))), (5, .int (iI lf)), (0, .ref (a 0)), (1, .int (iI st)), (2, .int (iI num))]) hx hb dX3_takes_81 hl (k := 5) rfl (iI_add _ _) (by decide) rfl (fun ls hl => ?_)
      refine lv_goto (tgt := 5) hx hb dX3_takes_84 (by decide) ?_
      exact ih_5 ((k + 1), (kp + (if 0 < lf then 1 else 0)), (zu it1 ((8 * st) + kp) (it1 ((8 * st) + k))), (zu we1 ((8 * st) + kp) lf)) _ _ (by show (0 ≤ (k + 1) ∧ (k + 1) ≤ co st) ∧ (0 ≤ (kp + (if 0 < lf then 1 else 0)) ∧ (kp + (if 0 < lf then 1 else 0)) ≤ (k + 1)) ∧ (((kp + (if 0 < lf then 1 else 0)), (zu it1 ((8 * st) + kp) (it1 ((8 * st) + k))), (zu we1 ((8 * st) + kp) lf)) = mTk st num it we (k + 1).toNat) ∧ (∀ j9 : Int, 8 * st + (k + 1) ≤ j9 → (zu we1 ((8 * st) + kp) lf) j9 = we j9); exact ⟨by omega, by split <;> omega, by rw [mTk_s (by omega), ← h3, e_lf], fun j9 hj => by rw [zu_n (by omega)]; exact h4 j9 (by omega)⟩) hW hS (by show (co st - (k + 1)).toNat < (co st - k).toNat; omega) ls (lv_sub hl [3, 4, 5, 1, 0] rfl)
    · refine lv_iload hx hb dX3_takes_69 (lv_at hl 0 rfl) ?_
      refine z_if_le (tgt := 78) hx hb dX3_takes_71 (by decide) (by omega) (fun c_3 => ?_) (fun c_3 => ?_)
      · refine lv_iconst (v := iI 0) hx hb dX3_takes_78 (by rfl) ?_
        exact j_2f (by omega)
      · refine lv_iconst (v := iI 1) hx hb dX3_takes_74 (by rfl) ?_
        refine lv_goto (tgt := 79) hx hb dX3_takes_75 (by decide) ?_
        exact j_2t (by omega)
set_option maxHeartbeats 4000000 in
set_option maxRecDepth 100000 in
theorem kX3_opens (l : Launch) (D : va_G) (a : Nat → Nat) (kc : Nat → ClassId) (th : Int) (cn tt ce co it we tk fv : Int → Int) (sz : Nat) (st item w : Int) (hst : 0 ≤ st ∧ st < 4) (hco : 0 ≤ co st ∧ co st ≤ 7) : Met l yX3_opens (ws_ yX3_opens cX3_opens 4 none) ({ frames := 12, cells := 0, slots := 0, locals := 160 }) (va_Pc [.ref (a 0), .int (iI st), .int (iI item), .int (iI w)] (mW D a kc th cn tt ce co it we tk fv sz)) (va_Qv (fun (_ : Unit) => True) (fun (_ : Unit) t8 => RW D clz mL a (mct a kc th cn tt ce ((mOpens st item w (co, it, we, tk)).1) ((mOpens st item w (co, it, we, tk)).2.1) ((mOpens st item w (co, it, we, tk)).2.2.1) ((mOpens st item w (co, it, we, tk)).2.2.2) fv) t8.heap) (RA mL a sz)) 0 0 (RA mL a sz) := by
  refine Met.ofW (cc := cX3_opens) (maxL := 4) (ret := none) (by decide) rfl ?_
  intro p e s m args below meth c s₁ B hml hv
  obtain ⟨rfl, hsz, hW, hK, hJ0⟩ := hv
  subst hsz
  have hJ := hJ0.self (sz := s.heap.size)
  have hS : va_S (RA mL a s.heap.size) s.heap s.heap [] := va_S.rf
  have hx := B.exec
  have hb := B.bytes
  have hr := B.returns
  have hlk := B.notSynchronized
  have hts := atoms_spec (ws := (ws_ yX3_opens cX3_opens 4 none)) B.pre
  have hts : ∀ w ∈ lw_all, w.before _ s = true := fun w h => hts w (List.mem_cons_of_mem _ h)
  have hown : s.vm.findClass RX3 = some m.cls := findClass_of_methodNamed B.named
  have hl := lv_entry ([.ref (a 0), .int (iI st), .int (iI item), .int (iI w)]) (n := 4) (Nat.le_of_ble_eq_true rfl)
  rw [lg_entry_eq]
  generalize (lg_sl ([.ref (a 0), .int (iI st), .int (iI item), .int (iI w)]) ++ List.replicate (4 - (lg_sl ([.ref (a 0), .int (iI st), .int (iI item), .int (iI w)])).length) Slot.unset).toArray = ls at hl ⊢
  have hl : lv_has ls 4 [(0, .ref (a 0)), (1, .int (iI st)), (2, .int (iI item)), (3, .int (iI w))] := hl
  refine lv_aload_n hx hb dX3_opens_0 rfl (lv_at hl 0 rfl) ?_
  refine w_getf (ci := 0) (v := .ref (a 5)) (C := RX3) (T := TX3) (N := 9) hx hb hts in_X3 hown hK hW 0 (by decide) rfl rfl 5 (by decide) (hts _ q800) (fun _ h9 => h9) rfl dX3_opens_1 ?_
  refine lv_bipush (v := iI 8) hx hb dX3_opens_4 (by rfl) ?_
  refine lv_iload_n hx hb dX3_opens_6 rfl (lv_at hl 1 rfl) ?_
  refine z_imul hx hb dX3_opens_7 ?_
  refine lv_aload_n hx hb dX3_opens_8 rfl (lv_at hl 0 rfl) ?_
  refine w_getf (ci := 0) (v := .ref (a 4)) (C := RX3) (T := TX3) (N := 9) hx hb hts in_X3 hown hK hW 0 (by decide) rfl rfl 4 (by decide) (hts _ q799) (fun _ h9 => h9) rfl dX3_opens_9 ?_
  refine lv_iload_n hx hb dX3_opens_12 rfl (lv_at hl 1 rfl) ?_
  refine w_iald hx hb hK hW 4 0 (by decide) (n := 4) (g := co) rfl rfl (by omega) (by decide) dX3_opens_13 ?_
  refine z_iadd hx hb dX3_opens_14 ?_
  refine lv_iload_n hx hb dX3_opens_15 rfl (lv_at hl 2 rfl) ?_
  refine w_iast hx hb hK hW hJ hS 5 0 (by decide) (n := 32) (g := it) rfl rfl (by omega) (by decide) (mct_5 _ _ _ _ _ _ _ _ _ _ _ _) dX3_opens_16 (fun H locs hW hS hz => ?_)
  have hW : RW D clz mL a (mct a kc th cn tt ce co (zu it ((8 * st) + (co st)) item) we tk fv) H := hW
  refine lv_aload_n hx hb dX3_opens_17 rfl (lv_at hl 0 rfl) ?_
  refine w_getf (ci := 0) (v := .ref (a 6)) (C := RX3) (T := TX3) (N := 9) hx hb hts in_X3 hown hK hW 0 (by decide) rfl rfl 6 (by decide) (hts _ q801) (fun _ h9 => h9) rfl dX3_opens_18 ?_
  refine lv_bipush (v := iI 8) hx hb dX3_opens_21 (by rfl) ?_
  refine lv_iload_n hx hb dX3_opens_23 rfl (lv_at hl 1 rfl) ?_
  refine z_imul hx hb dX3_opens_24 ?_
  refine lv_aload_n hx hb dX3_opens_25 rfl (lv_at hl 0 rfl) ?_
  refine w_getf (ci := 0) (v := .ref (a 4)) (C := RX3) (T := TX3) (N := 9) hx hb hts in_X3 hown hK hW 0 (by decide) rfl rfl 4 (by decide) (hts _ q799) (fun _ h9 => h9) rfl dX3_opens_26 ?_
  refine lv_iload_n hx hb dX3_opens_29 rfl (lv_at hl 1 rfl) ?_
  refine w_iald hx hb hK hW 4 0 (by decide) (n := 4) (g := co) rfl rfl (by omega) (by decide) dX3_opens_30 ?_
  refine z_iadd hx hb dX3_opens_31 ?_
  refine lv_iload_n hx hb dX3_opens_32 rfl (lv_at hl 3 rfl) ?_
  refine w_iast hx hb hK hW hJ hS 6 0 (by decide) (n := 32) (g := we) rfl rfl (by omega) (by decide) (mct_6 _ _ _ _ _ _ _ _ _ _ _ _) dX3_opens_33 (fun H locs hW hS hz => ?_)
  have hW : RW D clz mL a (mct a kc th cn tt ce co (zu it ((8 * st) + (co st)) item) (zu we ((8 * st) + (co st)) w) tk fv) H := hW
  refine lv_aload_n hx hb dX3_opens_34 rfl (lv_at hl 0 rfl) ?_
  refine w_getf (ci := 0) (v := .ref (a 4)) (C := RX3) (T := TX3) (N := 9) hx hb hts in_X3 hown hK hW 0 (by decide) rfl rfl 4 (by decide) (hts _ q799) (fun _ h9 => h9) rfl dX3_opens_35 ?_
  refine lv_iload_n hx hb dX3_opens_38 rfl (lv_at hl 1 rfl) ?_
  refine lv_dup2_11 hx hb dX3_opens_39 rfl rfl ?_
  refine w_iald hx hb hK hW 4 0 (by decide) (n := 4) (g := co) rfl rfl (by omega) (by decide) dX3_opens_40 ?_
  refine lv_iconst (v := iI 1) hx hb dX3_opens_41 (by rfl) ?_
  refine z_iadd hx hb dX3_opens_42 ?_
  refine w_iast hx hb hK hW hJ hS 4 0 (by decide) (n := 4) (g := co) rfl rfl (by omega) (by decide) (mct_4 _ _ _ _ _ _ _ _ _ _ _ _) dX3_opens_43 (fun H locs hW hS hz => ?_)
  have hW : RW D clz mL a (mct a kc th cn tt ce (zu co st ((co st) + 1)) (zu it ((8 * st) + (co st)) item) (zu we ((8 * st) + (co st)) w) tk fv) H := hW
  exact z_retWv hx hb hr hlk hW hS dX3_opens_44
theorem mTakes_r {st num : Int} {q : mQ} (h : 0 ≤ q.1 st) : 0 ≤ (mTakes st num q).1 st ∧ (mTakes st num q).1 st ≤ q.1 st := by
  show 0 ≤ zu q.1 st _ st ∧ zu q.1 st _ st ≤ _
  rw [zu_s]
  have h1 := mTk_r st num q.2.1 q.2.2.1 (q.1 st).toNat
  omega
set_option maxHeartbeats 4000000 in
set_option maxRecDepth 100000 in
theorem kX3_addsToCounters (l : Launch) (D : va_G) (a : Nat → Nat) (kc : Nat → ClassId) (th : Int) (cn tt ce co it we tk fv : Int → Int) (sz : Nat) (q : mQ) (st item w : Int) (hst : 0 ≤ st ∧ st < 4) (hi : 0 ≤ item ∧ item ≤ 63) (hw : 1 ≤ w ∧ w ≤ 1000) (hco : 0 ≤ co st ∧ co st ≤ 4) (hit : ∀ i9 : Int, 0 ≤ it i9 ∧ it i9 ≤ 63) (hwe : ∀ j9 : Int, 0 ≤ j9 → j9 < co st → 0 ≤ we (8 * st + j9) ∧ we (8 * st + j9) ≤ 1000000) (hq : q = mAddC st item w (co, it, we, tk)) : Met l yX3_addsToCounters (ws_ yX3_addsToCounters cX3_addsToCounters 8 none) ({ frames := 13, cells := 0, slots := 0, locals := 200 }) (va_Pc [.ref (a 0), .int (iI st), .int (iI item), .int (iI w)] (mW D a kc th cn tt ce co it we tk fv sz)) (va_Qv (fun (_ : Unit) => True) (fun (_ : Unit) t8 => RW D clz mL a (mct a kc th cn tt ce ((q).1) ((q).2.1) ((q).2.2.1) ((q).2.2.2) fv) t8.heap) (RA mL a sz)) 0 0 (RA mL a sz) := by
  refine Met.ofW (cc := cX3_addsToCounters) (maxL := 8) (ret := none) (by decide) rfl ?_
  intro p e s m args below meth c s₁ B hml hv
  obtain ⟨rfl, hsz, hW, hK, hJ0⟩ := hv
  subst hsz
  have hJ := hJ0.self (sz := s.heap.size)
  have hS : va_S (RA mL a s.heap.size) s.heap s.heap [] := va_S.rf
  have hx := B.exec
  have hb := B.bytes
  have hr := B.returns
  have hlk := B.notSynchronized
  have hts := atoms_spec (ws := (ws_ yX3_addsToCounters cX3_addsToCounters 8 none)) B.pre
  have hts : ∀ w ∈ lw_all, w.before _ s = true := fun w h => hts w (List.mem_cons_of_mem _ h)
  have hown : s.vm.findClass RX3 = some m.cls := findClass_of_methodNamed B.named
  have hl := lv_entry ([.ref (a 0), .int (iI st), .int (iI item), .int (iI w)]) (n := 8) (Nat.le_of_ble_eq_true rfl)
  rw [lg_entry_eq]
  generalize (lg_sl ([.ref (a 0), .int (iI st), .int (iI item), .int (iI w)]) ++ List.replicate (8 - (lg_sl ([.ref (a 0), .int (iI st), .int (iI item), .int (iI w)])).length) Slot.unset).toArray = ls at hl ⊢
  have hl : lv_has ls 8 [(0, .ref (a 0)), (1, .int (iI st)), (2, .int (iI item)), (3, .int (iI w))] := hl
  refine lv_aload_n hx hb dX3_addsToCounters_0 rfl (lv_at hl 0 rfl) ?_
  refine lv_iload_n hx hb dX3_addsToCounters_1 rfl (lv_at hl 1 rfl) ?_
  refine lv_iload_n hx hb dX3_addsToCounters_2 rfl (lv_at hl 2 rfl) ?_
  refine z_cs (W.runV (As := [.int (iI st), .int (iI item)]) (rest := []) ⟨hx, hb, hml, hown, hts⟩ (kX3_placeOfCounter l D a kc th cn tt ce co it we tk fv st item (by omega) (by omega) (by omega) (by omega)) (cwV 2 hts (lw_V q870 q872 qs16 q33 q873) rfl rfl rfl (by decide +kernel) ⟨Nat.le_of_ble_eq_true rfl, Nat.le_of_ble_eq_true rfl⟩) ⟨mR_blind, w_recv hK hW 0 (by decide) rfl rfl, mR_pre hW hK⟩ rfl rfl hl.1 rfl (lv_room (Nat.le_of_ble_eq_true rfl)) dX3_addsToCounters_3 ⟨Nat.le_of_ble_eq_true rfl, Nat.le_of_ble_eq_true rfl⟩) ?_
  refine z_top (fun p9 e_p9 => ?_)
  have hp := mFind_r it st item (co st).toNat
  rw [← e_p9] at hp
  refine lv_istore (lv' := [(4, .int (iI p9)), (0, .ref (a 0)), (1, .int (iI st)), (2, .int (iI item)), (3, .int (iI w))]) hx hb dX3_addsToCounters_6 hl (by decide) rfl (fun ls hl => ?_)
  refine lv_iload hx hb dX3_addsToCounters_8 (lv_at hl 0 rfl) ?_
  refine lv_iconst (v := iI (-1)) hx hb dX3_addsToCounters_10 (by rfl) ?_
  refine z_icmp_eq (tgt := 31) hx hb dX3_addsToCounters_11 (by decide) (by omega) (by decide) (fun c_1 => ?_) (fun c_1 => ?_)
  · refine lv_iload_n hx hb dX3_addsToCounters_31 rfl (lv_at hl 4 rfl) ?_
    refine lv_istore (lv' := [(5, .int (iI w)), (4, .int (iI p9)), (0, .ref (a 0)), (1, .int (iI st)), (2, .int (iI item)), (3, .int (iI w))]) hx hb dX3_addsToCounters_32 hl (by decide) rfl (fun ls hl => ?_)
    refine lv_aload_n hx hb dX3_addsToCounters_34 rfl (lv_at hl 2 rfl) ?_
    refine w_getf (ci := 0) (v := .ref (a 4)) (C := RX3) (T := TX3) (N := 9) hx hb hts in_X3 hown hK hW 0 (by decide) rfl rfl 4 (by decide) (hts _ q799) (fun _ h9 => h9) rfl dX3_addsToCounters_35 ?_
    refine lv_iload_n hx hb dX3_addsToCounters_38 rfl (lv_at hl 3 rfl) ?_
    refine w_iald hx hb hK hW 4 0 (by decide) (n := 4) (g := co) rfl rfl (by omega) (by decide) dX3_addsToCounters_39 ?_
    refine lv_iconst (v := iI 4) hx hb dX3_addsToCounters_40 (by rfl) ?_
    refine z_icmp_ne (tgt := 112) hx hb dX3_addsToCounters_41 (by decide) (by omega) (by decide) (fun c_41 => ?_) (fun c_41 => ?_)
    · refine lv_iload hx hb dX3_addsToCounters_112 (lv_at hl 0 rfl) ?_
      refine z_if_le (tgt := 125) hx hb dX3_addsToCounters_114 (by decide) (by omega) (fun c_2 => absurd c_2 (by omega)) (fun c_2 => ?_)
      refine lv_aload_n hx hb dX3_addsToCounters_117 rfl (lv_at hl 2 rfl) ?_
      refine lv_iload_n hx hb dX3_addsToCounters_118 rfl (lv_at hl 3 rfl) ?_
      refine lv_iload_n hx hb dX3_addsToCounters_119 rfl (lv_at hl 4 rfl) ?_
      refine lv_iload hx hb dX3_addsToCounters_120 (lv_at hl 0 rfl) ?_
      refine va_callv (va_runV (As := [.int (iI st), .int (iI item), .int (iI w)]) (rest := []) ⟨hx, hb, hml, hown, hts⟩ (kX3_opens l D a kc th cn tt ce co it we tk fv _ st item w (by omega) (by first | omega | (have h9 := mTakes_r (st := st) (num := ls3) (q := (co, it, we, tk)) hco.1; have h8 : ((co, it, we, tk) : mQ).1 st = co st := rfl; omega))) (cwV 3 hts (lw_V q878 q880 qs18 q33 q881) rfl rfl rfl (by decide +kernel) ⟨Nat.le_of_ble_eq_true rfl, Nat.le_of_ble_eq_true rfl⟩) ⟨mW_blind, w_recv hK hW 0 (by decide) rfl rfl, mW_pre hW hK hJ.any⟩ rfl rfl hl.1 rfl (lv_room (Nat.le_of_ble_eq_true rfl)) dX3_addsToCounters_122 ⟨Nat.le_of_ble_eq_true rfl, Nat.le_of_ble_eq_true rfl⟩) hS (fun q _ h => RA.mono hS.1 q h) (RA.mono hS.1) (fun u9 t9 H locs ht9 hvm9 hr9 hB9 hz9 hk9 hS => ?_)
      have hW : RW D clz mL a (mct a kc th cn tt ce ((mOpens st item w (co, it, we, tk)).1) ((mOpens st item w (co, it, we, tk)).2.1) ((mOpens st item w (co, it, we, tk)).2.2.1) ((mOpens st item w (co, it, we, tk)).2.2.2) fv) H := by rw [← ht9]; exact hB9
      simp only [mAddC] at hq
      rw [← e_p9] at hq
      rw [if_neg (by omega), if_neg (by omega)] at hq
      subst hq
      exact z_retWv hx hb hr hlk hW hS dX3_addsToCounters_125
    · have hw0 := hwe 0 (by omega) (by omega)
      have hw1 := hwe 1 (by omega) (by omega)
      have hw2 := hwe 2 (by omega) (by omega)
      have hw3 := hwe 3 (by omega) (by omega)
      have hw9 : 0 ≤ w ∧ w ≤ 1000000 := by omega
      refine lv_iload_n hx hb dX3_addsToCounters_44 rfl (lv_at hl 5 rfl) ?_
      refine lv_istore (lv' := [(6, .int (iI w)), (5, .int (iI w)), (4, .int (iI p9)), (0, .ref (a 0)), (1, .int (iI st)), (2, .int (iI item)), (3, .int (iI w))]) hx hb dX3_addsToCounters_45 hl (by decide) rfl (fun ls hl => ?_)
      refine lv_iconst (v := iI 0) hx hb dX3_addsToCounters_47 (by rfl) ?_
      refine lv_istore (lv' := [(7, .int (iI 0)), (6, .int (iI w)), (5, .int (iI w)), (4, .int (iI p9)), (0, .ref (a 0)), (1, .int (iI st)), (2, .int (iI item)), (3, .int (iI w))]) hx hb dX3_addsToCounters_48 hl (by decide) rfl (fun ls hl => ?_)
      refine lv_iload hx hb dX3_addsToCounters_50 (lv_at hl 0 rfl) ?_
      refine lv_iconst (v := iI 4) hx hb dX3_addsToCounters_52 (by rfl) ?_
      refine z_icmp_ge (tgt := 98) hx hb dX3_addsToCounters_53 (by decide) (by decide) (by decide) (fun h9 => absurd h9 (by decide)) (fun _ => ?_)
      refine z_dia (P := we ((8 * st) + 0) < w) (x := (we ((8 * st) + 0))) (y := w) (pcM := 90) (ls := ls) (rest := []) ?_ (fun j_4t j_4f => ?_)
      · refine z_as (zmin (we (8 * st + 0)) w) (rfl) ?_
        refine z_top (fun ls0 e_ls0 => ?_)
        have hb_ls0 := zmin_b (a := 0) (b := 1000000) hw0 hw9
        rw [← e_ls0] at hb_ls0
        refine lv_istore (lv' := [(6, .int (iI ls0)), (7, .int (iI 0)), (5, .int (iI w)), (4, .int (iI p9)), (0, .ref (a 0)), (1, .int (iI st)), (2, .int (iI item)), (3, .int (iI w))]) hx hb dX3_addsToCounters_90 hl (by decide) rfl (fun ls hl => ?_)
        refine lv_iinc (v := iI 1) (lv' := [(7, .int (iI 1)), (6, .int (iI ls0)), (5, .int (iI w)), (4, .int (iI p9)), (0, .ref (a 0)), (1, .int (iI st)), (2, .int (iI item)), (3, .int (iI w))]) hx hb dX3_addsToCounters_92 hl (k := 1) rfl (by decide) (by decide) rfl (fun ls hl => ?_)
        refine lv_goto (tgt := 50) hx hb dX3_addsToCounters_95 (by decide) ?_
        refine lv_iload hx hb dX3_addsToCounters_50 (lv_at hl 0 rfl) ?_
        refine lv_iconst (v := iI 4) hx hb dX3_addsToCounters_52 (by rfl) ?_
        refine z_icmp_ge (tgt := 98) hx hb dX3_addsToCounters_53 (by decide) (by decide) (by decide) (fun h9 => absurd h9 (by decide)) (fun _ => ?_)
        refine z_dia (P := we ((8 * st) + 1) < ls0) (x := (we ((8 * st) + 1))) (y := ls0) (pcM := 90) (ls := ls) (rest := []) ?_ (fun j_6t j_6f => ?_)
        · refine z_as (zmin (we (8 * st + 1)) ls0) (rfl) ?_
          refine z_top (fun ls1 e_ls1 => ?_)
          have hb_ls1 := zmin_b (a := 0) (b := 1000000) hw1 hb_ls0
          rw [← e_ls1] at hb_ls1
          refine lv_istore (lv' := [(6, .int (iI ls1)), (7, .int (iI 1)), (5, .int (iI w)), (4, .int (iI p9)), (0, .ref (a 0)), (1, .int (iI st)), (2, .int (iI item)), (3, .int (iI w))]) hx hb dX3_addsToCounters_90 hl (by decide) rfl (fun ls hl => ?_)
          refine lv_iinc (v := iI 2) (lv' := [(7, .int (iI 2)), (6, .int (iI ls1)), (5, .int (iI w)), (4, .int (iI p9)), (0, .ref (a 0)), (1, .int (iI st)), (2, .int (iI item)), (3, .int (iI w))]) hx hb dX3_addsToCounters_92 hl (k := 1) rfl (by decide) (by decide) rfl (fun ls hl => ?_)
          refine lv_goto (tgt := 50) hx hb dX3_addsToCounters_95 (by decide) ?_
          refine lv_iload hx hb dX3_addsToCounters_50 (lv_at hl 0 rfl) ?_
          refine lv_iconst (v := iI 4) hx hb dX3_addsToCounters_52 (by rfl) ?_
          refine z_icmp_ge (tgt := 98) hx hb dX3_addsToCounters_53 (by decide) (by decide) (by decide) (fun h9 => absurd h9 (by decide)) (fun _ => ?_)
          refine z_dia (P := we ((8 * st) + 2) < ls1) (x := (we ((8 * st) + 2))) (y := ls1) (pcM := 90) (ls := ls) (rest := []) ?_ (fun j_8t j_8f => ?_)
          · refine z_as (zmin (we (8 * st + 2)) ls1) (rfl) ?_
            refine z_top (fun ls2 e_ls2 => ?_)
            have hb_ls2 := zmin_b (a := 0) (b := 1000000) hw2 hb_ls1
            rw [← e_ls2] at hb_ls2
            refine lv_istore (lv' := [(6, .int (iI ls2)), (7, .int (iI 2)), (5, .int (iI w)), (4, .int (iI p9)), (0, .ref (a 0)), (1, .int (iI st)), (2, .int (iI item)), (3, .int (iI w))]) hx hb dX3_addsToCounters_90 hl (by decide) rfl (fun ls hl => ?_)
            refine lv_iinc (v := iI 3) (lv' := [(7, .int (iI 3)), (6, .int (iI ls2)), (5, .int (iI w)), (4, .int (iI p9)), (0, .ref (a 0)), (1, .int (iI st)), (2, .int (iI item)), (3, .int (iI w))]) hx hb dX3_addsToCounters_92 hl (k := 1) rfl (by decide) (by decide) rfl (fun ls hl => ?_)
            refine lv_goto (tgt := 50) hx hb dX3_addsToCounters_95 (by decide) ?_
            refine lv_iload hx hb dX3_addsToCounters_50 (lv_at hl 0 rfl) ?_
            refine lv_iconst (v := iI 4) hx hb dX3_addsToCounters_52 (by rfl) ?_
            refine z_icmp_ge (tgt := 98) hx hb dX3_addsToCounters_53 (by decide) (by decide) (by decide) (fun h9 => absurd h9 (by decide)) (fun _ => ?_)
            refine z_dia (P := we ((8 * st) + 3) < ls2) (x := (we ((8 * st) + 3))) (y := ls2) (pcM := 90) (ls := ls) (rest := []) ?_ (fun j_10t j_10f => ?_)
            · refine z_as (zmin (we (8 * st + 3)) ls2) (rfl) ?_
              refine z_top (fun ls3 e_ls3 => ?_)
              have hb_ls3 := zmin_b (a := 0) (b := 1000000) hw3 hb_ls2
              rw [← e_ls3] at hb_ls3
              refine lv_istore (lv' := [(6, .int (iI ls3)), (7, .int (iI 3)), (5, .int (iI w)), (4, .int (iI p9)), (0, .ref (a 0)), (1, .int (iI st)), (2, .int (iI item)), (3, .int (iI w))]) hx hb dX3_addsToCounters_90 hl (by decide) rfl (fun ls hl => ?_)
              refine lv_iinc (v := iI 4) (lv' := [(7, .int (iI 4)), (6, .int (iI ls3)), (5, .int (iI w)), (4, .int (iI p9)), (0, .ref (a 0)), (1, .int (iI st)), (2, .int (iI item)), (3, .int (iI w))]) hx hb dX3_addsToCounters_92 hl (k := 1) rfl (by decide) (by decide) rfl (fun ls hl => ?_)
              refine lv_goto (tgt := 50) hx hb dX3_addsToCounters_95 (by decide) ?_
              refine lv_iload hx hb dX3_addsToCounters_50 (lv_at hl 0 rfl) ?_
              refine lv_iconst (v := iI 4) hx hb dX3_addsToCounters_52 (by rfl) ?_
              refine z_icmp_ge (tgt := 98) hx hb dX3_addsToCounters_53 (by decide) (by decide) (by decide) (fun _ => ?_) (fun h9 => absurd h9 (by decide))
              refine lv_aload_n hx hb dX3_addsToCounters_98 rfl (lv_at hl 4 rfl) ?_
              refine lv_iload_n hx hb dX3_addsToCounters_99 rfl (lv_at hl 5 rfl) ?_
              refine lv_iload hx hb dX3_addsToCounters_100 (lv_at hl 1 rfl) ?_
              refine va_callv (va_runV (As := [.int (iI st), .int (iI ls3)]) (rest := []) ⟨hx, hb, hml, hown, hts⟩ (kX3_takes l D a kc th cn tt ce co it we tk fv _ st ls3 (by omega) (by omega) (fun j9 h1 h2 => by have := hwe j9 h1 h2; omega) (by omega)) (cwV 2 hts (lw_V q874 q876 qs17 q33 q877) rfl rfl rfl (by decide +kernel) ⟨Nat.le_of_ble_eq_true rfl, Nat.le_of_ble_eq_true rfl⟩) ⟨mW_blind, w_recv hK hW 0 (by decide) rfl rfl, mW_pre hW hK hJ.any⟩ rfl rfl hl.1 rfl (lv_room (Nat.le_of_ble_eq_true rfl)) dX3_addsToCounters_102 ⟨Nat.le_of_ble_eq_true rfl, Nat.le_of_ble_eq_true rfl⟩) hS (fun q _ h => RA.mono hS.1 q h) (RA.mono hS.1) (fun u9 t9 H locs ht9 hvm9 hr9 hB9 hz9 hk9 hS => ?_)
              have hW : RW D clz mL a (mct a kc th cn tt ce ((mTakes st ls3 (co, it, we, tk)).1) ((mTakes st ls3 (co, it, we, tk)).2.1) ((mTakes st ls3 (co, it, we, tk)).2.2.1) ((mTakes st ls3 (co, it, we, tk)).2.2.2) fv) H := by rw [← ht9]; exact hB9
              refine lv_iload hx hb dX3_addsToCounters_105 (lv_at hl 2 rfl) ?_
              refine lv_iload hx hb dX3_addsToCounters_107 (lv_at hl 1 rfl) ?_
              refine z_isub hx hb dX3_addsToCounters_109 ?_
              refine lv_istore (lv' := [(5, .int (iI (w - ls3))), (7, .int (iI 4)), (6, .int (iI ls3)), (4, .int (iI p9)), (0, .ref (a 0)), (1, .int (iI st)), (2, .int (iI item)), (3, .int (iI w))]) hx hb dX3_addsToCounters_110 hl (by decide) rfl (fun ls hl => ?_)
              refine lv_iload hx hb dX3_addsToCounters_112 (lv_at hl 0 rfl) ?_
              refine z_if_le (tgt := 125) hx hb dX3_addsToCounters_114 (by decide) (by omega) (fun c_12 => ?_) (fun c_12 => ?_)
              · simp only [mAddC] at hq
                rw [← e_p9] at hq
                have eL : mLeast we st w = ls3 := by unfold mLeast; rw [← e_ls0, ← e_ls1, ← e_ls2, ← e_ls3]
                rw [eL, if_neg (by omega), if_pos (by omega)] at hq
                first | rw [if_pos (by omega)] at hq | rw [if_neg (by omega)] at hq
                subst hq
                exact z_retWv hx hb hr hlk hW hS dX3_addsToCounters_125
              · refine lv_aload_n hx hb dX3_addsToCounters_117 rfl (lv_at hl 4 rfl) ?_
                refine lv_iload_n hx hb dX3_addsToCounters_118 rfl (lv_at hl 5 rfl) ?_
                refine lv_iload_n hx hb dX3_addsToCounters_119 rfl (lv_at hl 6 rfl) ?_
                refine lv_iload hx hb dX3_addsToCounters_120 (lv_at hl 0 rfl) ?_
                refine va_callv (va_runV (As := [.int (iI st), .int (iI item), .int (iI (w - ls3))]) (rest := []) ⟨hx, hb, hml, hown, hts⟩ (kX3_opens l D a kc th cn tt ce ((mTakes st ls3 (co, it, we, tk)).1) ((mTakes st ls3 (co, it, we, tk)).2.1) ((mTakes st ls3 (co, it, we, tk)).2.2.1) ((mTakes st ls3 (co, it, we, tk)).2.2.2) fv _ st item (w - ls3) (by omega) (by first | omega | (have h9 := mTakes_r (st := st) (num := ls3) (q := (co, it, we, tk)) hco.1; have h8 : ((co, it, we, tk) : mQ).1 st = co st := rfl; omega))) (cwV 3 hts (lw_V q878 q880 qs18 q33 q881) rfl rfl rfl (by decide +kernel) ⟨Nat.le_of_ble_eq_true rfl, Nat.le_of_ble_eq_true rfl⟩) ⟨mW_blind, w_recv hK hW 0 (by decide) rfl rfl, mW_pre hW hK hJ.any⟩ rfl rfl hl.1 rfl (lv_room (Nat.le_of_ble_eq_true rfl)) dX3_addsToCounters_122 ⟨Nat.le_of_ble_eq_true rfl, Nat.le_of_ble_eq_true rfl⟩) hS (fun q _ h => RA.mono hS.1 q h) (RA.mono hS.1) (fun u9 t9 H locs ht9 hvm9 hr9 hB9 hz9 hk9 hS => ?_)
                have hW : RW D clz mL a (mct a kc th cn tt ce ((mOpens st item (w - ls3) (((mTakes st ls3 (co, it, we, tk)).1), ((mTakes st ls3 (co, it, we, tk)).2.1), ((mTakes st ls3 (co, it, we, tk)).2.2.1), ((mTakes st ls3 (co, it, we, tk)).2.2.2))).1) ((mOpens st item (w - ls3) (((mTakes st ls3 (co, it, we, tk)).1), ((mTakes st ls3 (co, it, we, tk)).2.1), ((mTakes st ls3 (co, it, we, tk)).2.2.1), ((mTakes st ls3 (co, it, we, tk)).2.2.2))).2.1) ((mOpens st item (w - ls3) (((mTakes st ls3 (co, it, we, tk)).1), ((mTakes st ls3 (co, it, we, tk)).2.1), ((mTakes st ls3 (co, it, we, tk)).2.2.1), ((mTakes st ls3 (co, it, we, tk)).2.2.2))).2.2.1) ((mOpens st item (w - ls3) (((mTakes st ls3 (co, it, we, tk)).1), ((mTakes st ls3 (co, it, we, tk)).2.1), ((mTakes st ls3 (co, it, we, tk)).2.2.1), ((mTakes st ls3 (co, it, we, tk)).2.2.2))).2.2.2) fv) H := by rw [← ht9]; exact hB9
                simp only [mAddC] at hq
                rw [← e_p9] at hq
                have eL : mLeast we st w = ls3 := by unfold mLeast; rw [← e_ls0, ← e_ls1, ← e_ls2, ← e_ls3]
                rw [eL, if_neg (by omega), if_pos (by omega)] at hq
                first | rw [if_pos (by omega)] at hq | rw [if_neg (by omega)] at hq
                subst hq
                exact z_retWv hx hb hr hlk hW hS dX3_addsToCounters_125
            · refine lv_aload_n hx hb dX3_addsToCounters_56 rfl (lv_at hl 4 rfl) ?_
              refine w_getf (ci := 0) (v := .ref (a 6)) (C := RX3) (T := TX3) (N := 9) hx hb hts in_X3 hown hK hW 0 (by decide) rfl rfl 6 (by decide) (hts _ q801) (fun _ h9 => h9) rfl dX3_addsToCounters_57 ?_
              refine lv_bipush (v := iI 8) hx hb dX3_addsToCounters_60 (by rfl) ?_
              refine lv_iload_n hx hb dX3_addsToCounters_62 rfl (lv_at hl 5 rfl) ?_
              refine z_imul hx hb dX3_addsToCounters_63 ?_
              refine lv_iload hx hb dX3_addsToCounters_64 (lv_at hl 0 rfl) ?_
              refine z_iadd hx hb dX3_addsToCounters_66 ?_
              refine w_iald hx hb hK hW 6 0 (by decide) (n := 32) (g := we) rfl rfl (by omega) (by decide) dX3_addsToCounters_67 ?_
              refine lv_iload hx hb dX3_addsToCounters_68 (lv_at hl 1 rfl) ?_
              refine z_icmp_ge (tgt := 88) hx hb dX3_addsToCounters_70 (by decide) (by omega) (by omega) (fun c_13 => ?_) (fun c_13 => ?_)
              · refine lv_iload hx hb dX3_addsToCounters_88 (lv_at hl 1 rfl) ?_
                exact j_10f (by omega)
              · refine lv_aload_n hx hb dX3_addsToCounters_73 rfl (lv_at hl 4 rfl) ?_
                refine w_getf (ci := 0) (v := .ref (a 6)) (C := RX3) (T := TX3) (N := 9) hx hb hts in_X3 hown hK hW 0 (by decide) rfl rfl 6 (by decide) (hts _ q801) (fun _ h9 => h9) rfl dX3_addsToCounters_74 ?_
                refine lv_bipush (v := iI 8) hx hb dX3_addsToCounters_77 (by rfl) ?_
                refine lv_iload_n hx hb dX3_addsToCounters_79 rfl (lv_at hl 5 rfl) ?_
                refine z_imul hx hb dX3_addsToCounters_80 ?_
                refine lv_iload hx hb dX3_addsToCounters_81 (lv_at hl 0 rfl) ?_
                refine z_iadd hx hb dX3_addsToCounters_83 ?_
                refine w_iald hx hb hK hW 6 0 (by decide) (n := 32) (g := we) rfl rfl (by omega) (by decide) dX3_addsToCounters_84 ?_
                refine lv_goto (tgt := 90) hx hb dX3_addsToCounters_85 (by decide) ?_
                exact j_10t (by omega)
          · refine lv_aload_n hx hb dX3_addsToCounters_56 rfl (lv_at hl 4 rfl) ?_
            refine w_getf (ci := 0) (v := .ref (a 6)) (C := RX3) (T := TX3) (N := 9) hx hb hts in_X3 hown hK hW 0 (by decide) rfl rfl 6 (by decide) (hts _ q801) (fun _ h9 => h9) rfl dX3_addsToCounters_57 ?_
            refine lv_bipush (v := iI 8) hx hb dX3_addsToCounters_60 (by rfl) ?_
            refine lv_iload_n hx hb dX3_addsToCounters_62 rfl (lv_at hl 5 rfl) ?_
            refine z_imul hx hb dX3_addsToCounters_63 ?_
            refine lv_iload hx hb dX3_addsToCounters_64 (lv_at hl 0 rfl) ?_
            refine z_iadd hx hb dX3_addsToCounters_66 ?_
            refine w_iald hx hb hK hW 6 0 (by decide) (n := 32) (g := we) rfl rfl (by omega) (by decide) dX3_addsToCounters_67 ?_
            refine lv_iload hx hb dX3_addsToCounters_68 (lv_at hl 1 rfl) ?_
            refine z_icmp_ge (tgt := 88) hx hb dX3_addsToCounters_70 (by decide) (by omega) (by omega) (fun c_14 => ?_) (fun c_14 => ?_)
            · refine lv_iload hx hb dX3_addsToCounters_88 (lv_at hl 1 rfl) ?_
              exact j_8f (by omega)
            · refine lv_aload_n hx hb dX3_addsToCounters_73 rfl (lv_at hl 4 rfl) ?_
              refine w_getf (ci := 0) (v := .ref (a 6)) (C := RX3) (T := TX3) (N := 9) hx hb hts in_X3 hown hK hW 0 (by decide) rfl rfl 6 (by decide) (hts _ q801) (fun _ h9 => h9) rfl dX3_addsToCounters_74 ?_
              refine lv_bipush (v := iI 8) hx hb dX3_addsToCounters_77 (by rfl) ?_
              refine lv_iload_n hx hb dX3_addsToCounters_79 rfl (lv_at hl 5 rfl) ?_
              refine z_imul hx hb dX3_addsToCounters_80 ?_
              refine lv_iload hx hb dX3_addsToCounters_81 (lv_at hl 0 rfl) ?_
              refine z_iadd hx hb dX3_addsToCounters_83 ?_
              refine w_iald hx hb hK hW 6 0 (by decide) (n := 32) (g := we) rfl rfl (by omega) (by decide) dX3_addsToCounters_84 ?_
              refine lv_goto (tgt := 90) hx hb dX3_addsToCounters_85 (by decide) ?_
              exact j_8t (by omega)
        · refine lv_aload_n hx hb dX3_addsToCounters_56 rfl (lv_at hl 4 rfl) ?_
          refine w_getf (ci := 0) (v := .ref (a 6)) (C := RX3) (T := TX3) (N := 9) hx hb hts in_X3 hown hK hW 0 (by decide) rfl rfl 6 (by decide) (hts _ q801) (fun _ h9 => h9) rfl dX3_addsToCounters_57 ?_
          refine lv_bipush (v := iI 8) hx hb dX3_addsToCounters_60 (by rfl) ?_
          refine lv_iload_n hx hb dX3_addsToCounters_62 rfl (lv_at hl 5 rfl) ?_
          refine z_imul hx hb dX3_addsToCounters_63 ?_
          refine lv_iload hx hb dX3_addsToCounters_64 (lv_at hl 0 rfl) ?_
          refine z_iadd hx hb dX3_addsToCounters_66 ?_
          refine w_iald hx hb hK hW 6 0 (by decide) (n := 32) (g := we) rfl rfl (by omega) (by decide) dX3_addsToCounters_67 ?_
          refine lv_iload hx hb dX3_addsToCounters_68 (lv_at hl 1 rfl) ?_
          refine z_icmp_ge (tgt := 88) hx hb dX3_addsToCounters_70 (by decide) (by omega) (by omega) (fun c_15 => ?_) (fun c_15 => ?_)
          · refine lv_iload hx hb dX3_addsToCounters_88 (lv_at hl 1 rfl) ?_
            exact j_6f (by omega)
          · refine lv_aload_n hx hb dX3_addsToCounters_73 rfl (lv_at hl 4 rfl) ?_
            refine w_getf (ci := 0) (v := .ref (a 6)) (C := RX3) (T := TX3) (N := 9) hx hb hts in_X3 hown hK hW 0 (by decide) rfl rfl 6 (by decide) (hts _ q801) (fun _ h9 => h9) rfl dX3_addsToCounters_74 ?_
            refine lv_bipush (v := iI 8) hx hb dX3_addsToCounters_77 (by rfl) ?_
            refine lv_iload_n hx hb dX3_addsToCounters_79 rfl (lv_at hl 5 rfl) ?_
            refine z_imul hx hb dX3_addsToCounters_80 ?_
            refine lv_iload hx hb dX3_addsToCounters_81 (lv_at hl 0 rfl) ?_
            refine z_iadd hx hb dX3_addsToCounters_83 ?_
            refine w_iald hx hb hK hW 6 0 (by decide) (n := 32) (g := we) rfl rfl (by omega) (by decide) dX3_addsToCounters_84 ?_
            refine lv_goto (tgt := 90) hx hb dX3_addsToCounters_85 (by decide) ?_
            exact j_6t (by omega)
      · refine lv_aload_n hx hb dX3_addsToCounters_56 rfl (lv_at hl 4 rfl) ?_
        refine w_getf (ci := 0) (v := .ref (a 6)) (C := RX3) (T := TX3) (N := 9) hx hb hts in_X3 hown hK hW 0 (by decide) rfl rfl 6 (by decide) (hts _ q801) (fun _ h9 => h9) rfl dX3_addsToCounters_57 ?_
        refine lv_bipush (v := iI 8) hx hb dX3_addsToCounters_60 (by rfl) ?_
        refine lv_iload_n hx hb dX3_addsToCounters_62 rfl (lv_at hl 5 rfl) ?_
        refine z_imul hx hb dX3_addsToCounters_63 ?_
        refine lv_iload hx hb dX3_addsToCounters_64 (lv_at hl 0 rfl) ?_
        refine z_iadd hx hb dX3_addsToCounters_66 ?_
        refine w_iald hx hb hK hW 6 0 (by decide) (n := 32) (g := we) rfl rfl (by omega) (by decide) dX3_addsToCounters_67 ?_
        refine lv_iload hx hb dX3_addsToCounters_68 (lv_at hl 1 rfl) ?_
        refine z_icmp_ge (tgt := 88) hx hb dX3_addsToCounters_70 (by decide) (by omega) (by omega) (fun c_16 => ?_) (fun c_16 => ?_)
        · refine lv_iload hx hb dX3_addsToCounters_88 (lv_at hl 1 rfl) ?_
          exact j_4f (by omega)
        · refine lv_aload_n hx hb dX3_addsToCounters_73 rfl (lv_at hl 4 rfl) ?_
          refine w_getf (ci := 0) (v := .ref (a 6)) (C := RX3) (T := TX3) (N := 9) hx hb hts in_X3 hown hK hW 0 (by decide) rfl rfl 6 (by decide) (hts _ q801) (fun _ h9 => h9) rfl dX3_addsToCounters_74 ?_
          refine lv_bipush (v := iI 8) hx hb dX3_addsToCounters_77 (by rfl) ?_
          refine lv_iload_n hx hb dX3_addsToCounters_79 rfl (lv_at hl 5 rfl) ?_
          refine z_imul hx hb dX3_addsToCounters_80 ?_
          refine lv_iload hx hb dX3_addsToCounters_81 (lv_at hl 0 rfl) ?_
          refine z_iadd hx hb dX3_addsToCounters_83 ?_
          refine w_iald hx hb hK hW 6 0 (by decide) (n := 32) (g := we) rfl rfl (by omega) (by decide) dX3_addsToCounters_84 ?_
          refine lv_goto (tgt := 90) hx hb dX3_addsToCounters_85 (by decide) ?_
          exact j_4t (by omega)
  · refine lv_aload_n hx hb dX3_addsToCounters_14 rfl (lv_at hl 1 rfl) ?_
    refine w_getf (ci := 0) (v := .ref (a 6)) (C := RX3) (T := TX3) (N := 9) hx hb hts in_X3 hown hK hW 0 (by decide) rfl rfl 6 (by decide) (hts _ q801) (fun _ h9 => h9) rfl dX3_addsToCounters_15 ?_
    refine lv_bipush (v := iI 8) hx hb dX3_addsToCounters_18 (by rfl) ?_
    refine lv_iload_n hx hb dX3_addsToCounters_20 rfl (lv_at hl 2 rfl) ?_
    refine z_imul hx hb dX3_addsToCounters_21 ?_
    refine lv_iload hx hb dX3_addsToCounters_22 (lv_at hl 0 rfl) ?_
    refine z_iadd hx hb dX3_addsToCounters_24 ?_
    refine lv_dup2_11 hx hb dX3_addsToCounters_25 rfl rfl ?_
    refine w_iald hx hb hK hW 6 0 (by decide) (n := 32) (g := we) rfl rfl (by omega) (by decide) dX3_addsToCounters_26 ?_
    refine lv_iload_n hx hb dX3_addsToCounters_27 rfl (lv_at hl 4 rfl) ?_
    refine z_iadd hx hb dX3_addsToCounters_28 ?_
    refine w_iast hx hb hK hW hJ hS 6 0 (by decide) (n := 32) (g := we) rfl rfl (by omega) (by decide) (mct_6 _ _ _ _ _ _ _ _ _ _ _ _) dX3_addsToCounters_29 (fun H locs hW hS hz => ?_)
    have hW : RW D clz mL a (mct a kc th cn tt ce co it (zu we ((8 * st) + p9) ((we ((8 * st) + p9)) + w)) tk fv) H := hW
    simp only [mAddC] at hq
    rw [← e_p9] at hq
    rw [if_pos (by omega)] at hq
    subst hq
    exact z_retWv hx hb hr hlk hW hS dX3_addsToCounters_30
set_option maxHeartbeats 4000000 in
set_option maxRecDepth 100000 in
theorem kX3_fifth (l : Launch) (D : va_G) (a : Nat → Nat) (kc : Nat → ClassId) (th : Int) (cn tt ce co it we tk fv : Int → Int) (st : Int) (hst : 0 ≤ st ∧ st < 4) (hco : 0 ≤ co st ∧ co st ≤ 8) (hwe : ∀ j9 : Int, 0 ≤ j9 → j9 < co st → 0 ≤ we (8 * st + j9) ∧ we (8 * st + j9) ≤ 100000000) : Met l yX3_fifth (ws_ yX3_fifth cX3_fifth 8 (some .int)) ({ frames := 12, cells := 0, slots := 0, locals := 160 }) (va_Pc [.ref (a 0), .int (iI st)] (mR D a kc th cn tt ce co it we tk fv)) (vp_Si (fun r => r = iI (mFif we st (co st).toNat (co st).toNat))) 0 0 (fun _ => False) := by
  refine Met.ofW (cc := cX3_fifth) (maxL := 8) (ret := (some .int)) (by decide) rfl ?_
  intro p e s m args below meth c s₁ B hml hv
  obtain ⟨rfl, hW, hK⟩ := hv
  have hx := B.exec
  have hb := B.bytes
  have hr := B.returns
  have hlk := B.notSynchronized
  have hts := atoms_spec (ws := (ws_ yX3_fifth cX3_fifth 8 (some .int))) B.pre
  have hts : ∀ w ∈ lw_all, w.before _ s = true := fun w h => hts w (List.mem_cons_of_mem _ h)
  have hown : s.vm.findClass RX3 = some m.cls := findClass_of_methodNamed B.named
  have hl := lv_entry ([.ref (a 0), .int (iI st)]) (n := 8) (Nat.le_of_ble_eq_true rfl)
  rw [lg_entry_eq]
  generalize (lg_sl ([.ref (a 0), .int (iI st)]) ++ List.replicate (8 - (lg_sl ([.ref (a 0), .int (iI st)])).length) Slot.unset).toArray = ls at hl ⊢
  have hl : lv_has ls 8 [(0, .ref (a 0)), (1, .int (iI st))] := hl
  refine lv_iconst (v := iI 0) hx hb dX3_fifth_0 (by rfl) ?_
  refine lv_istore_n (lv' := [(2, .int (iI 0)), (0, .ref (a 0)), (1, .int (iI st))]) hx hb dX3_fifth_1 rfl hl (by decide) rfl (fun ls hl => ?_)
  refine lv_iconst (v := iI 0) hx hb dX3_fifth_2 (by rfl) ?_
  refine lv_istore_n (lv' := [(3, .int (iI 0)), (2, .int (iI 0)), (0, .ref (a 0)), (1, .int (iI st))]) hx hb dX3_fifth_3 rfl hl (by decide) rfl (fun ls hl => ?_)
  refine z_loopR (σ := Int × Int) (fun x9 => [(0, .ref (a 0)), (1, .int (iI st)), (2, .int (iI x9.2)), (3, .int (iI x9.1))]) (fun x9 => (0 ≤ x9.1 ∧ x9.1 ≤ co st) ∧ (x9.2 = mFif we st (co st).toNat x9.1.toNat)) (fun x9 => (co st - x9.1).toNat) ?_ (0, 0) (by show (0 ≤ (0 : Int) ∧ (0 : Int) ≤ co st) ∧ ((0 : Int) = mFif we st (co st).toNat (0 : Int).toNat); exact ⟨by omega, rfl⟩) (lv_sub hl [2, 3, 1, 0] rfl)
  rintro ⟨k, fd⟩ hI9 ih_4 ls hl
  have hI9 : (0 ≤ k ∧ k ≤ co st) ∧ (fd = mFif we st (co st).toNat k.toNat) := hI9
  obtain ⟨h1, h2⟩ := hI9
  have hl : lv_has ls 8 [(0, .ref (a 0)), (1, .int (iI st)), (2, .int (iI fd)), (3, .int (iI k))] := hl
  refine lv_iload_n hx hb dX3_fifth_4 rfl (lv_at hl 3 rfl) ?_
  refine lv_aload_n hx hb dX3_fifth_5 rfl (lv_at hl 0 rfl) ?_
  refine w_getf (ci := 0) (v := .ref (a 4)) (C := RX3) (T := TX3) (N := 9) hx hb hts in_X3 hown hK hW 0 (by decide) rfl rfl 4 (by decide) (hts _ q799) (fun _ h9 => h9) rfl dX3_fifth_6 ?_
  refine lv_iload_n hx hb dX3_fifth_9 rfl (lv_at hl 1 rfl) ?_
  refine w_iald hx hb hK hW 4 0 (by decide) (n := 4) (g := co) rfl rfl (by omega) (by decide) dX3_fifth_10 ?_
  refine z_icmp_ge (tgt := 135) hx hb dX3_fifth_11 (by decide) (by omega) (by omega) (fun c_1 => ?_) (fun c_1 => ?_)
  · refine lv_iload_n hx hb dX3_fifth_135 rfl (lv_at hl 2 rfl) ?_
    exact z_retS hx hb hr hlk (by rw [h2]; congr 1; omega) dX3_fifth_136
  · have hwk := hwe k (by omega) (by omega)
    refine lv_aload_n hx hb dX3_fifth_14 rfl (lv_at hl 0 rfl) ?_
    refine w_getf (ci := 0) (v := .ref (a 6)) (C := RX3) (T := TX3) (N := 9) hx hb hts in_X3 hown hK hW 0 (by decide) rfl rfl 6 (by decide) (hts _ q801) (fun _ h9 => h9) rfl dX3_fifth_15 ?_
    refine lv_bipush (v := iI 8) hx hb dX3_fifth_18 (by rfl) ?_
    refine lv_iload_n hx hb dX3_fifth_20 rfl (lv_at hl 1 rfl) ?_
    refine z_imul hx hb dX3_fifth_21 ?_
    refine lv_iload_n hx hb dX3_fifth_22 rfl (lv_at hl 3 rfl) ?_
    refine z_iadd hx hb dX3_fifth_23 ?_
    refine w_iald hx hb hK hW 6 0 (by decide) (n := 32) (g := we) rfl rfl (by omega) (by decide) dX3_fifth_24 ?_
    refine z_top (fun x e_x => ?_)
    rw [← e_x] at hwk
    refine lv_istore (lv' := [(4, .int (iI x)), (0, .ref (a 0)), (1, .int (iI st)), (2, .int (iI fd)), (3, .int (iI k))]) hx hb dX3_fifth_25 hl (by decide) rfl (fun ls hl => ?_)
    refine lv_iconst (v := iI 0) hx hb dX3_fifth_27 (by rfl) ?_
    refine lv_istore (lv' := [(5, .int (iI 0)), (4, .int (iI x)), (0, .ref (a 0)), (1, .int (iI st)), (2, .int (iI fd)), (3, .int (iI k))]) hx hb dX3_fifth_28 hl (by decide) rfl (fun ls hl => ?_)
    refine lv_iconst (v := iI 0) hx hb dX3_fifth_30 (by rfl) ?_
    refine lv_istore (lv' := [(6, .int (iI 0)), (5, .int (iI 0)), (4, .int (iI x)), (0, .ref (a 0)), (1, .int (iI st)), (2, .int (iI fd)), (3, .int (iI k))]) hx hb dX3_fifth_31 hl (by decide) rfl (fun ls hl => ?_)
    refine lv_iconst (v := iI 0) hx hb dX3_fifth_33 (by rfl) ?_
    refine lv_istore (lv' := [(7, .int (iI 0)), (6, .int (iI 0)), (5, .int (iI 0)), (4, .int (iI x)), (0, .ref (a 0)), (1, .int (iI st)), (2, .int (iI fd)), (3, .int (iI k))]) hx hb dX3_fifth_34 hl (by decide) rfl (fun ls hl => ?_)
    refine z_loopR (σ := Int × Int × Int) (fun x9 => [(0, .ref (a 0)), (1, .int (iI st)), (2, .int (iI fd)), (3, .int (iI k)), (4, .int (iI x)), (5, .int (iI x9.2.1)), (6, .int (iI x9.2.2)), (7, .int (iI x9.1))]) (fun x9 => (0 ≤ x9.1 ∧ x9.1 ≤ co st) ∧ (x9.2.1 = mGt we st x x9.1.toNat) ∧ (x9.2.2 = mEq we st x x9.1.toNat) ∧ (0 ≤ x9.2.1 ∧ x9.2.1 ≤ x9.1) ∧ (0 ≤ x9.2.2 ∧ x9.2.2 ≤ x9.1)) (fun x9 => (co st - x9.1).toNat) ?_ (0, 0, 0) (by show (0 ≤ (0 : Int) ∧ (0 : Int) ≤ co st) ∧ ((0 : Int) = mGt we st x (0 : Int).toNat) ∧ ((0 : Int) = mEq we st x (0 : Int).toNat) ∧ (0 ≤ (0 : Int) ∧ (0 : Int) ≤ (0 : Int)) ∧ (0 ≤ (0 : Int) ∧ (0 : Int) ≤ (0 : Int)); exact ⟨by omega, rfl, rfl, by omega, by omega⟩) (lv_sub hl [4, 5, 6, 7, 3, 2, 1, 0] rfl)
    rintro ⟨o, gr, sm⟩ hI9 ih_36 ls hl
    have hI9 : (0 ≤ o ∧ o ≤ co st) ∧ (gr = mGt we st x o.toNat) ∧ (sm = mEq we st x o.toNat) ∧ (0 ≤ gr ∧ gr ≤ o) ∧ (0 ≤ sm ∧ sm ≤ o) := hI9
    obtain ⟨g1, g2, g3, g4, g5⟩ := hI9
    have hl : lv_has ls 8 [(0, .ref (a 0)), (1, .int (iI st)), (2, .int (iI fd)), (3, .int (iI k)), (4, .int (iI x)), (5, .int (iI gr)), (6, .int (iI sm)), (7, .int (iI o))] := hl
    refine lv_iload hx hb dX3_fifth_36 (lv_at hl 7 rfl) ?_
    refine lv_aload_n hx hb dX3_fifth_38 rfl (lv_at hl 0 rfl) ?_
    refine w_getf (ci := 0) (v := .ref (a 4)) (C := RX3) (T := TX3) (N := 9) hx hb hts in_X3 hown hK hW 0 (by decide) rfl rfl 4 (by decide) (hts _ q799) (fun _ h9 => h9) rfl dX3_fifth_39 ?_
    refine lv_iload_n hx hb dX3_fifth_42 rfl (lv_at hl 1 rfl) ?_
    refine w_iald hx hb hK hW 4 0 (by decide) (n := 4) (g := co) rfl rfl (by omega) (by decide) dX3_fifth_43 ?_
    refine z_icmp_ge (tgt := 107) hx hb dX3_fifth_44 (by decide) (by omega) (by omega) (fun c_2 => ?_) (fun c_2 => ?_)
    · have ho : o = co st := by omega
      have ho9 : gr = mGt we st x (co st).toNat := by rw [g2, ho]
      have ho8 : sm = mEq we st x (co st).toNat := by rw [g3, ho]
      refine z_dia (P := gr ≤ 4 ∧ 4 < gr + sm) (x := x) (y := fd) (pcM := 128) (ls := ls) (rest := []) ?_ (fun j_3t j_3f => ?_)
      · refine lv_istore_n (lv' := [(2, .int (iI (if gr ≤ 4 ∧ 4 < gr + sm then x else fd))), (0, .ref (a 0)), (1, .int (iI st)), (3, .int (iI k)), (4, .int (iI x)), (5, .int (iI gr)), (6, .int (iI sm)), (7, .int (iI o))]) hx hb dX3_fifth_128 rfl hl (by decide) rfl (fun ls hl => ?_)
        refine lv_iinc (v := iI (k + 1)) (lv' := [(3, .int (iI (k + 1))), (2, .int (iI (if gr ≤ 4 ∧ 4 < gr + sm then x else fd))), (0, .ref (a 0)), (1, .int (iI st)), (4, .int (iI x)), (5, .int (iI gr)), (6, .int (iI sm)), (7, .int (iI o))]) hx hb dX3_fifth_129 hl (k := 3) rfl (iI_add _ _) (by decide) rfl (fun ls hl => ?_)
        refine lv_goto (tgt := 4) hx hb dX3_fifth_132 (by decide) ?_
        exact ih_4 ((k + 1), ((if gr ≤ 4 ∧ 4 < gr + sm then x else fd))) (by show (0 ≤ (k + 1) ∧ (k + 1) ≤ co st) ∧ ((if gr ≤ 4 ∧ 4 < gr + sm then x else fd) = mFif we st (co st).toNat (k + 1).toNat); exact ⟨by omega, by rw [mFif_s (by omega), ← h2, ← e_x, ho9, ho8]⟩) (by show (co st - (k + 1)).toNat < (co st - k).toNat; omega) ls (lv_sub hl [2, 3, 1, 0] rfl)
      · refine lv_iload hx hb dX3_fifth_107 (lv_at hl 5 rfl) ?_
        refine lv_iconst (v := iI 4) hx hb dX3_fifth_109 (by rfl) ?_
        refine z_icmp_gt (tgt := 127) hx hb dX3_fifth_110 (by decide) (by omega) (by decide) (fun c_4 => ?_) (fun c_4 => ?_)
        · refine lv_iload_n hx hb dX3_fifth_127 rfl (lv_at hl 2 rfl) ?_
          exact j_3f (by omega)
        · refine lv_iload hx hb dX3_fifth_113 (lv_at hl 5 rfl) ?_
          refine lv_iload hx hb dX3_fifth_115 (lv_at hl 6 rfl) ?_
          refine z_iadd hx hb dX3_fifth_117 ?_
          refine lv_iconst (v := iI 4) hx hb dX3_fifth_118 (by rfl) ?_
          refine z_icmp_le (tgt := 127) hx hb dX3_fifth_119 (by decide) (by omega) (by decide) (fun c_5 => ?_) (fun c_5 => ?_)
          · refine lv_iload_n hx hb dX3_fifth_127 rfl (lv_at hl 2 rfl) ?_
            exact j_3f (by omega)
          · refine lv_iload hx hb dX3_fifth_122 (lv_at hl 4 rfl) ?_
            refine lv_goto (tgt := 128) hx hb dX3_fifth_124 (by decide) ?_
            exact j_3t (by omega)
    · have hwo := hwe o (by omega) (by omega)
      refine lv_iload hx hb dX3_fifth_47 (lv_at hl 5 rfl) ?_
      refine z_dia (P := x < we ((8 * st) + o)) (x := 1) (y := 0) (pcM := 71) (ls := ls) (rest := [.int (iI gr)]) ?_ (fun j_6t j_6f => ?_)
      · refine z_iadd hx hb dX3_fifth_71 ?_
        refine lv_istore (lv' := [(5, .int (iI (gr + (if x < we ((8 * st) + o) then 1 else 0)))), (0, .ref (a 0)), (1, .int (iI st)), (2, .int (iI fd)), (3, .int (iI k)), (4, .int (iI x)), (6, .int (iI sm)), (7, .int (iI o))]) hx hb dX3_fifth_72 hl (by decide) rfl (fun ls hl => ?_)
        refine lv_iload hx hb dX3_fifth_74 (lv_at hl 6 rfl) ?_
        refine z_dia (P := we ((8 * st) + o) = x) (x := 1) (y := 0) (pcM := 98) (ls := ls) (rest := [.int (iI sm)]) ?_ (fun j_7t j_7f => ?_)
        · refine z_iadd hx hb dX3_fifth_98 ?_
          refine lv_istore (lv' := [(6, .int (iI (sm + (if we ((8 * st) + o) = x then 1 else 0)))), (5, .int (iI (gr + (if x < we ((8 * st) + o) then 1 else 0)))), (0, .ref (a 0)), (1, .int (iI st)), (2, .int (iI fd)), (3, .int (iI k)), (4, .int (iI x)), (7, .int (iI o))]) hx hb dX3_fifth_99 hl (by decide) rfl (fun ls hl => ?_)
          refine lv_iinc (v := iI (o + 1)) (lv' := [(7, .int (iI (o + 1))), (6, .int (iI (sm + (if we ((8 * st) + o) = x then 1 else 0)))), (5, .int (iI (gr + (if x < we ((8 * st) + o) then 1 else 0)))), (0, .ref (a 0)), (1, .int (iI st)), (2, .int (iI fd)), (3, .int (iI k)), (4, .int (iI x))]) hx hb dX3_fifth_101 hl (k := 7) rfl (iI_add _ _) (by decide) rfl (fun ls hl => ?_)
          refine lv_goto (tgt := 36) hx hb dX3_fifth_104 (by decide) ?_
          exact ih_36 ((o + 1), (gr + (if x < we ((8 * st) + o) then 1 else 0)), (sm + (if we ((8 * st) + o) = x then 1 else 0))) (by show (0 ≤ (o + 1) ∧ (o + 1) ≤ co st) ∧ ((gr + (if x < we ((8 * st) + o) then 1 else 0)) = mGt we st x (o + 1).toNat) ∧ ((sm + (if we ((8 * st) + o) = x then 1 else 0)) = mEq we st x (o + 1).toNat) ∧ (0 ≤ (gr + (if x < we ((8 * st) + o) then 1 else 0)) ∧ (gr + (if x < we ((8 * st) + o) then 1 else 0)) ≤ (o + 1)) ∧ (0 ≤ (sm + (if we ((8 * st) + o) = x then 1 else 0)) ∧ (sm + (if we ((8 * st) + o) = x then 1 else 0)) ≤ (o + 1)); exact ⟨by omega, by rw [mGt_s (by omega), g2], by rw [mEq_s (by omega), g3], by split <;> omega, by split <;> omega⟩) (by show (co st - (o + 1)).toNat < (co st - o).toNat; omega) ls (lv_sub hl [3, 4, 5, 6, 7, 2, 1, 0] rfl)
        · refine lv_aload_n hx hb dX3_fifth_76 rfl (lv_at hl 1 rfl) ?_
          refine w_getf (ci := 0) (v := .ref (a 6)) (C := RX3) (T := TX3) (N := 9) hx hb hts in_X3 hown hK hW 0 (by decide) rfl rfl 6 (by decide) (hts _ q801) (fun _ h9 => h9) rfl dX3_fifth_77 ?_
          refine lv_bipush (v := iI 8) hx hb dX3_fifth_80 (by rfl) ?_
          refine lv_iload_n hx hb dX3_fifth_82 rfl (lv_at hl 2 rfl) ?_
          refine z_imul hx hb dX3_fifth_83 ?_
          refine lv_iload hx hb dX3_fifth_84 (lv_at hl 7 rfl) ?_
          refine z_iadd hx hb dX3_fifth_86 ?_
          refine w_iald hx hb hK hW 6 0 (by decide) (n := 32) (g := we) rfl rfl (by omega) (by decide) dX3_fifth_87 ?_
          refine lv_iload hx hb dX3_fifth_88 (lv_at hl 5 rfl) ?_
          refine z_icmp_ne (tgt := 97) hx hb dX3_fifth_90 (by decide) (by omega) (by omega) (fun c_8 => ?_) (fun c_8 => ?_)
          · refine lv_iconst (v := iI 0) hx hb dX3_fifth_97 (by rfl) ?_
            exact j_7f (by omega)
          · refine lv_iconst (v := iI 1) hx hb dX3_fifth_93 (by rfl) ?_
            refine lv_goto (tgt := 98) hx hb dX3_fifth_94 (by decide) ?_
            exact j_7t (by omega)
      · refine lv_aload_n hx hb dX3_fifth_49 rfl (lv_at hl 0 rfl) ?_
        refine w_getf (ci := 0) (v := .ref (a 6)) (C := RX3) (T := TX3) (N := 9) hx hb hts in_X3 hown hK hW 0 (by decide) rfl rfl 6 (by decide) (hts _ q801) (fun _ h9 => h9) rfl dX3_fifth_50 ?_
        refine lv_bipush (v := iI 8) hx hb dX3_fifth_53 (by rfl) ?_
        refine lv_iload_n hx hb dX3_fifth_55 rfl (lv_at hl 1 rfl) ?_
        refine z_imul hx hb dX3_fifth_56 ?_
        refine lv_iload hx hb dX3_fifth_57 (lv_at hl 7 rfl) ?_
        refine z_iadd hx hb dX3_fifth_59 ?_
        refine w_iald hx hb hK hW 6 0 (by decide) (n := 32) (g := we) rfl rfl (by omega) (by decide) dX3_fifth_60 ?_
        refine lv_iload hx hb dX3_fifth_61 (lv_at hl 4 rfl) ?_
        refine z_icmp_le (tgt := 70) hx hb dX3_fifth_63 (by decide) (by omega) (by omega) (fun c_9 => ?_) (fun c_9 => ?_)
        · refine lv_iconst (v := iI 0) hx hb dX3_fifth_70 (by rfl) ?_
          exact j_6f (by omega)
        · refine lv_iconst (v := iI 1) hx hb dX3_fifth_66 (by rfl) ?_
          refine lv_goto (tgt := 71) hx hb dX3_fifth_67 (by decide) ?_
          exact j_6t (by omega)
set_option maxHeartbeats 4000000 in
set_option maxRecDepth 100000 in
theorem kX3_mergesCounters (l : Launch) (D : va_G) (a : Nat → Nat) (kc : Nat → ClassId) (th : Int) (cn tt ce co it we tk fv : Int → Int) (sz : Nat) (q : mQ) (st ot : Int) (hst : 0 ≤ st ∧ st < 4) (hot : 0 ≤ ot ∧ ot < 4) (hne : ¬ st = ot) (hco : 0 ≤ co st ∧ co st ≤ 4) (hco2 : 0 ≤ co ot ∧ co ot ≤ 4) (hit : ∀ i9 : Int, 0 ≤ it i9 ∧ it i9 ≤ 63) (hwe : ∀ j9 : Int, 0 ≤ j9 → j9 < co st → 0 ≤ we (8 * st + j9) ∧ we (8 * st + j9) ≤ 1000000) (hwo : ∀ j9 : Int, 0 ≤ j9 → j9 < co ot → 0 ≤ we (8 * ot + j9) ∧ we (8 * ot + j9) ≤ 1000000) (hq : q = mMgC st ot (co, it, we, tk)) : Met l yX3_mergesCounters (ws_ yX3_mergesCounters cX3_mergesCounters 6 none) ({ frames := 13, cells := 0, slots := 0, locals := 200 }) (va_Pc [.ref (a 0), .int (iI st), .int (iI ot)] (mW D a kc th cn tt ce co it we tk fv sz)) (va_Qv (fun (_ : Unit) => True) (fun (_ : Unit) t8 => RW D clz mL a (mct a kc th cn tt ce ((q).1) ((q).2.1) ((q).2.2.1) ((q).2.2.2) fv) t8.heap) (RA mL a sz)) 0 0 (RA mL a sz) := by
  refine Met.ofW (cc := cX3_mergesCounters) (maxL := 6) (ret := none) (by decide) rfl ?_
  intro p e s m args below meth c s₁ B hml hv
  obtain ⟨rfl, hsz, hW, hK, hJ0⟩ := hv
  subst hsz
  have hJ := hJ0.self (sz := s.heap.size)
  have hS : va_S (RA mL a s.heap.size) s.heap s.heap [] := va_S.rf
  have hx := B.exec
  have hb := B.bytes
  have hr := B.returns
  have hlk := B.notSynchronized
  have hts := atoms_spec (ws := (ws_ yX3_mergesCounters cX3_mergesCounters 6 none)) B.pre
  have hts : ∀ w ∈ lw_all, w.before _ s = true := fun w h => hts w (List.mem_cons_of_mem _ h)
  have hown : s.vm.findClass RX3 = some m.cls := findClass_of_methodNamed B.named
  have hl := lv_entry ([.ref (a 0), .int (iI st), .int (iI ot)]) (n := 6) (Nat.le_of_ble_eq_true rfl)
  rw [lg_entry_eq]
  generalize (lg_sl ([.ref (a 0), .int (iI st), .int (iI ot)]) ++ List.replicate (6 - (lg_sl ([.ref (a 0), .int (iI st), .int (iI ot)])).length) Slot.unset).toArray = ls at hl ⊢
  have hl : lv_has ls 6 [(0, .ref (a 0)), (1, .int (iI st)), (2, .int (iI ot))] := hl
  refine lv_iconst (v := iI 0) hx hb dX3_mergesCounters_0 (by rfl) ?_
  refine lv_istore_n (lv' := [(3, .int (iI 0)), (0, .ref (a 0)), (1, .int (iI st)), (2, .int (iI ot))]) hx hb dX3_mergesCounters_1 rfl hl (by decide) rfl (fun ls hl => ?_)
  refine z_loopW (σ := Int × (Int → Int) × (Int → Int) × (Int → Int)) (fun x9 => [(0, .ref (a 0)), (1, .int (iI st)), (2, .int (iI ot)), (3, .int (iI x9.1))]) (fun x9 => (0 ≤ x9.1 ∧ x9.1 ≤ co ot) ∧ ((x9.2.1, x9.2.2.1, x9.2.2.2, tk) = mMg st ot (co, it, we, tk) x9.1.toNat) ∧ (x9.2.1 ot = co ot ∧ 0 ≤ x9.2.1 st ∧ x9.2.1 st ≤ co st + x9.1) ∧ (∀ i9 : Int, 0 ≤ x9.2.2.1 i9 ∧ x9.2.2.1 i9 ≤ 63) ∧ (∀ j9 : Int, 0 ≤ j9 → j9 < x9.2.1 st → 0 ≤ x9.2.2.2 (8 * st + j9) ∧ x9.2.2.2 (8 * st + j9) ≤ 1000000 * (x9.1 + 1)) ∧ (∀ j9 : Int, 0 ≤ j9 → j9 < co ot → x9.2.2.2 (8 * ot + j9) = we (8 * ot + j9))) (fun x9 H9 => RW D clz mL a (mct a kc th cn tt ce x9.2.1 x9.2.2.1 x9.2.2.2 tk fv) H9) (fun x9 => (co ot - x9.1).toNat) ?_ (0, co, it, we) (by show (0 ≤ (0 : Int) ∧ (0 : Int) ≤ co ot) ∧ ((co, it, we, tk) = mMg st ot (co, it, we, tk) (0 : Int).toNat) ∧ (co ot = co ot ∧ 0 ≤ co st ∧ co st ≤ co st + (0 : Int)) ∧ (∀ i9 : Int, 0 ≤ it i9 ∧ it i9 ≤ 63) ∧ (∀ j9 : Int, 0 ≤ j9 → j9 < co st → 0 ≤ we (8 * st + j9) ∧ we (8 * st + j9) ≤ 1000000 * ((0 : Int) + 1)) ∧ (∀ j9 : Int, 0 ≤ j9 → j9 < co ot → we (8 * ot + j9) = we (8 * ot + j9)); exact ⟨by omega, rfl, by omega, hit, fun j a b => by have := hwe j a b; omega, fun _ _ _ => rfl⟩) hW hS (lv_sub hl [1, 2, 3, 0] rfl)
  rintro ⟨k, co1, it1, we1⟩ H locs hI9 hW hS ih_2 ls hl
  have hI9 : (0 ≤ k ∧ k ≤ co ot) ∧ ((co1, it1, we1, tk) = mMg st ot (co, it, we, tk) k.toNat) ∧ (co1 ot = co ot ∧ 0 ≤ co1 st ∧ co1 st ≤ co st + k) ∧ (∀ i9 : Int, 0 ≤ it1 i9 ∧ it1 i9 ≤ 63) ∧ (∀ j9 : Int, 0 ≤ j9 → j9 < co1 st → 0 ≤ we1 (8 * st + j9) ∧ we1 (8 * st + j9) ≤ 1000000 * (k + 1)) ∧ (∀ j9 : Int, 0 ≤ j9 → j9 < co ot → we1 (8 * ot + j9) = we (8 * ot + j9)) := hI9
  obtain ⟨h1, h2, h3, h4, h5, h6⟩ := hI9
  have hl : lv_has ls 6 [(0, .ref (a 0)), (1, .int (iI st)), (2, .int (iI ot)), (3, .int (iI k))] := hl
  have hW : RW D clz mL a (mct a kc th cn tt ce co1 it1 we1 tk fv) H := hW
  refine lv_iload_n hx hb dX3_mergesCounters_2 rfl (lv_at hl 3 rfl) ?_
  refine lv_aload_n hx hb dX3_mergesCounters_3 rfl (lv_at hl 0 rfl) ?_
  refine w_getf (ci := 0) (v := .ref (a 4)) (C := RX3) (T := TX3) (N := 9) hx hb hts in_X3 hown hK hW 0 (by decide) rfl rfl 4 (by decide) (hts _ q799) (fun _ h9 => h9) rfl dX3_mergesCounters_4 ?_
  refine lv_iload_n hx hb dX3_mergesCounters_7 rfl (lv_at hl 2 rfl) ?_
  refine w_iald hx hb hK hW 4 0 (by decide) (n := 4) (g := co1) rfl rfl (by omega) (by decide) dX3_mergesCounters_8 ?_
  refine z_icmp_ge (tgt := 93) hx hb dX3_mergesCounters_9 (by decide) (by omega) (by omega) (fun c_1 => ?_) (fun c_1 => ?_)
  · have hk : k = co ot := by omega
    rw [hk] at h2
    have eT : mMgT st ot (co, it, we, tk) = (co1, it1, we1, zu tk st (tk st + tk ot)) := by unfold mMgT; rw [show ((co, it, we, tk) : mQ).1 ot = co ot from rfl, ← h2]
    simp only [mMgC, eT] at hq
    have h5b : ∀ j9 : Int, 0 ≤ j9 → j9 < co1 st → 0 ≤ we1 (8 * st + j9) ∧ we1 (8 * st + j9) ≤ 5000000 := fun j a b => by have := h5 j a b; omega
    refine lv_aload_n hx hb dX3_mergesCounters_93 rfl (lv_at hl 0 rfl) ?_
    refine w_getf (ci := 0) (v := .ref (a 7)) (C := RX3) (T := TX3) (N := 9) hx hb hts in_X3 hown hK hW 0 (by decide) rfl rfl 7 (by decide) (hts _ q802) (fun _ h9 => h9) rfl dX3_mergesCounters_94 ?_
    refine lv_iload_n hx hb dX3_mergesCounters_97 rfl (lv_at hl 1 rfl) ?_
    refine lv_dup2_11 hx hb dX3_mergesCounters_98 rfl rfl ?_
    refine w_iald hx hb hK hW 7 0 (by decide) (n := 4) (g := tk) rfl rfl (by omega) (by decide) dX3_mergesCounters_99 ?_
    refine lv_aload_n hx hb dX3_mergesCounters_100 rfl (lv_at hl 0 rfl) ?_
    refine w_getf (ci := 0) (v := .ref (a 7)) (C := RX3) (T := TX3) (N := 9) hx hb hts in_X3 hown hK hW 0 (by decide) rfl rfl 7 (by decide) (hts _ q802) (fun _ h9 => h9) rfl dX3_mergesCounters_101 ?_
    refine lv_iload_n hx hb dX3_mergesCounters_104 rfl (lv_at hl 2 rfl) ?_
    refine w_iald hx hb hK hW 7 0 (by decide) (n := 4) (g := tk) rfl rfl (by omega) (by decide) dX3_mergesCounters_105 ?_
    refine z_iadd hx hb dX3_mergesCounters_106 ?_
    refine w_iast hx hb hK hW hJ hS 7 0 (by decide) (n := 4) (g := tk) rfl rfl (by omega) (by decide) (mct_7 _ _ _ _ _ _ _ _ _ _ _ _) dX3_mergesCounters_107 (fun H locs hW hS hz => ?_)
    have hW : RW D clz mL a (mct a kc th cn tt ce co1 it1 we1 (zu tk st ((tk st) + (tk ot))) fv) H := hW
    refine lv_aload_n hx hb dX3_mergesCounters_108 rfl (lv_at hl 0 rfl) ?_
    refine w_getf (ci := 0) (v := .ref (a 4)) (C := RX3) (T := TX3) (N := 9) hx hb hts in_X3 hown hK hW 0 (by decide) rfl rfl 4 (by decide) (hts _ q799) (fun _ h9 => h9) rfl dX3_mergesCounters_109 ?_
    refine lv_iload_n hx hb dX3_mergesCounters_112 rfl (lv_at hl 1 rfl) ?_
    refine w_iald hx hb hK hW 4 0 (by decide) (n := 4) (g := co1) rfl rfl (by omega) (by decide) dX3_mergesCounters_113 ?_
    refine lv_iconst (v := iI 4) hx hb dX3_mergesCounters_114 (by rfl) ?_
    refine z_icmp_le (tgt := 128) hx hb dX3_mergesCounters_115 (by decide) (by omega) (by decide) (fun c_2 => ?_) (fun c_2 => ?_)
    · rw [if_neg (by omega)] at hq
      subst hq
      exact z_retWv hx hb hr hlk hW hS dX3_mergesCounters_128
    · refine lv_aload_n hx hb dX3_mergesCounters_118 rfl (lv_at hl 0 rfl) ?_
      refine lv_iload_n hx hb dX3_mergesCounters_119 rfl (lv_at hl 1 rfl) ?_
      refine lv_aload_n hx hb dX3_mergesCounters_120 rfl (lv_at hl 0 rfl) ?_
      refine lv_iload_n hx hb dX3_mergesCounters_121 rfl (lv_at hl 1 rfl) ?_
      refine z_cs (W.runV (As := [.int (iI st)]) (rest := [.int (iI st), .ref (a 0)]) ⟨hx, hb, hml, hown, hts⟩ (kX3_fifth l D a kc th cn tt ce co1 it1 we1 (zu tk st ((tk st) + (tk ot))) fv st (by omega) (by omega) (fun j a b => by have := h5b j a b; omega)) (cwV 1 hts (lw_V q890 q892 qs20 q33 q893) rfl rfl rfl (by decide +kernel) ⟨Nat.le_of_ble_eq_true rfl, Nat.le_of_ble_eq_true rfl⟩) ⟨mR_blind, w_recv hK hW 0 (by decide) rfl rfl, mR_pre hW hK⟩ rfl rfl hl.1 rfl (lv_room (Nat.le_of_ble_eq_true rfl)) dX3_mergesCounters_122 ⟨Nat.le_of_ble_eq_true rfl, Nat.le_of_ble_eq_true rfl⟩) ?_
      have hfb := mFif_b (we := we1) (st := st) (N := (co1 st).toNat) (B := 5000000) (by decide) (co1 st).toNat (fun j a b => h5b j a (by omega))
      refine va_callv (va_runV (As := [.int (iI st), .int (iI (mFif we1 st (co1 st).toNat (co1 st).toNat))]) (rest := []) ⟨hx, hb, hml, hown, hts⟩ (kX3_takes l D a kc th cn tt ce co1 it1 we1 (zu tk st ((tk st) + (tk ot))) fv _ st (mFif we1 st (co1 st).toNat (co1 st).toNat) (by omega) (by omega) (fun j a b => by have := h5b j a b; omega) (by omega)) (cwV 2 hts (lw_V q874 q876 qs17 q33 q877) rfl rfl rfl (by decide +kernel) ⟨Nat.le_of_ble_eq_true rfl, Nat.le_of_ble_eq_true rfl⟩) ⟨mW_blind, w_recv hK hW 0 (by decide) rfl rfl, mW_pre hW hK hJ.any⟩ rfl rfl hl.1 rfl (lv_room (Nat.le_of_ble_eq_true rfl)) dX3_mergesCounters_125 ⟨Nat.le_of_ble_eq_true rfl, Nat.le_of_ble_eq_true rfl⟩) hS (fun q _ h => RA.mono hS.1 q h) (RA.mono hS.1) (fun u9 t9 H locs ht9 hvm9 hr9 hB9 hz9 hk9 hS => ?_)
      have hW : RW D clz mL a (mct a kc th cn tt ce ((mTakes st (mFif we1 st (co1 st).toNat (co1 st).toNat) (co1, it1, we1, (zu tk st ((tk st) + (tk ot))))).1) ((mTakes st (mFif we1 st (co1 st).toNat (co1 st).toNat) (co1, it1, we1, (zu tk st ((tk st) + (tk ot))))).2.1) ((mTakes st (mFif we1 st (co1 st).toNat (co1 st).toNat) (co1, it1, we1, (zu tk st ((tk st) + (tk ot))))).2.2.1) ((mTakes st (mFif we1 st (co1 st).toNat (co1 st).toNat) (co1, it1, we1, (zu tk st ((tk st) + (tk ot))))).2.2.2) fv) H := by rw [← ht9]; exact hB9
      rw [if_pos (by omega)] at hq
      subst hq
      exact z_retWv hx hb hr hlk hW hS dX3_mergesCounters_128
  · have himb := h4 (8 * ot + k)
    have hwk := h6 k (by omega) (by omega)
    have hwk2 := hwo k (by omega) (by omega)
    refine lv_aload_n hx hb dX3_mergesCounters_12 rfl (lv_at hl 0 rfl) ?_
    refine w_getf (ci := 0) (v := .ref (a 5)) (C := RX3) (T := TX3) (N := 9) hx hb hts in_X3 hown hK hW 0 (by decide) rfl rfl 5 (by decide) (hts _ q800) (fun _ h9 => h9) rfl dX3_mergesCounters_13 ?_
    refine lv_bipush (v := iI 8) hx hb dX3_mergesCounters_16 (by rfl) ?_
    refine lv_iload_n hx hb dX3_mergesCounters_18 rfl (lv_at hl 2 rfl) ?_
    refine z_imul hx hb dX3_mergesCounters_19 ?_
    refine lv_iload_n hx hb dX3_mergesCounters_20 rfl (lv_at hl 3 rfl) ?_
    refine z_iadd hx hb dX3_mergesCounters_21 ?_
    refine w_iald hx hb hK hW 5 0 (by decide) (n := 32) (g := it1) rfl rfl (by omega) (by decide) dX3_mergesCounters_22 ?_
    refine z_top (fun im e_im => ?_)
    rw [← e_im] at himb
    refine lv_istore (lv' := [(4, .int (iI im)), (0, .ref (a 0)), (1, .int (iI st)), (2, .int (iI ot)), (3, .int (iI k))]) hx hb dX3_mergesCounters_23 hl (by decide) rfl (fun ls hl => ?_)
    refine lv_aload_n hx hb dX3_mergesCounters_25 rfl (lv_at hl 1 rfl) ?_
    refine lv_iload_n hx hb dX3_mergesCounters_26 rfl (lv_at hl 2 rfl) ?_
    refine lv_iload hx hb dX3_mergesCounters_27 (lv_at hl 0 rfl) ?_
    refine z_cs (W.runV (As := [.int (iI st), .int (iI im)]) (rest := []) ⟨hx, hb, hml, hown, hts⟩ (kX3_placeOfCounter l D a kc th cn tt ce co1 it1 we1 tk fv st im (by omega) (himb) (by omega) (h4)) (cwV 2 hts (lw_V q870 q872 qs16 q33 q873) rfl rfl rfl (by decide +kernel) ⟨Nat.le_of_ble_eq_true rfl, Nat.le_of_ble_eq_true rfl⟩) ⟨mR_blind, w_recv hK hW 0 (by decide) rfl rfl, mR_pre hW hK⟩ rfl rfl hl.1 rfl (lv_room (Nat.le_of_ble_eq_true rfl)) dX3_mergesCounters_29 ⟨Nat.le_of_ble_eq_true rfl, Nat.le_of_ble_eq_true rfl⟩) ?_
    refine z_top (fun p9 e_p9 => ?_)
    have hp := mFind_r it1 st im (co1 st).toNat
    rw [← e_p9] at hp
    refine lv_istore (lv' := [(5, .int (iI p9)), (4, .int (iI im)), (0, .ref (a 0)), (1, .int (iI st)), (2, .int (iI ot)), (3, .int (iI k))]) hx hb dX3_mergesCounters_32 hl (by decide) rfl (fun ls hl => ?_)
    refine lv_iload hx hb dX3_mergesCounters_34 (lv_at hl 0 rfl) ?_
    refine lv_iconst (v := iI (-1)) hx hb dX3_mergesCounters_36 (by rfl) ?_
    refine z_icmp_ne (tgt := 61) hx hb dX3_mergesCounters_37 (by decide) (by omega) (by decide) (fun c_3 => ?_) (fun c_3 => ?_)
    · refine lv_aload_n hx hb dX3_mergesCounters_61 rfl (lv_at hl 2 rfl) ?_
      refine w_getf (ci := 0) (v := .ref (a 6)) (C := RX3) (T := TX3) (N := 9) hx hb hts in_X3 hown hK hW 0 (by decide) rfl rfl 6 (by decide) (hts _ q801) (fun _ h9 => h9) rfl dX3_mergesCounters_62 ?_
      refine lv_bipush (v := iI 8) hx hb dX3_mergesCounters_65 (by rfl) ?_
      refine lv_iload_n hx hb dX3_mergesCounters_67 rfl (lv_at hl 3 rfl) ?_
      refine z_imul hx hb dX3_mergesCounters_68 ?_
      refine lv_iload hx hb dX3_mergesCounters_69 (lv_at hl 0 rfl) ?_
      refine z_iadd hx hb dX3_mergesCounters_71 ?_
      refine lv_dup2_11 hx hb dX3_mergesCounters_72 rfl rfl ?_
      refine w_iald hx hb hK hW 6 0 (by decide) (n := 32) (g := we1) rfl rfl (by omega) (by decide) dX3_mergesCounters_73 ?_
      refine lv_aload_n hx hb dX3_mergesCounters_74 rfl (lv_at hl 2 rfl) ?_
      refine w_getf (ci := 0) (v := .ref (a 6)) (C := RX3) (T := TX3) (N := 9) hx hb hts in_X3 hown hK hW 0 (by decide) rfl rfl 6 (by decide) (hts _ q801) (fun _ h9 => h9) rfl dX3_mergesCounters_75 ?_
      refine lv_bipush (v := iI 8) hx hb dX3_mergesCounters_78 (by rfl) ?_
      refine lv_iload_n hx hb dX3_mergesCounters_80 rfl (lv_at hl 4 rfl) ?_
      refine z_imul hx hb dX3_mergesCounters_81 ?_
      refine lv_iload_n hx hb dX3_mergesCounters_82 rfl (lv_at hl 5 rfl) ?_
      refine z_iadd hx hb dX3_mergesCounters_83 ?_
      refine w_iald hx hb hK hW 6 0 (by decide) (n := 32) (g := we1) rfl rfl (by omega) (by decide) dX3_mergesCounters_84 ?_
      refine z_iadd hx hb dX3_mergesCounters_85 ?_
      refine w_iast hx hb hK hW hJ hS 6 0 (by decide) (n := 32) (g := we1) rfl rfl (by omega) (by decide) (mct_6 _ _ _ _ _ _ _ _ _ _ _ _) dX3_mergesCounters_86 (fun H locs hW hS hz => ?_)
      have hW : RW D clz mL a (mct a kc th cn tt ce co1 it1 (zu we1 ((8 * st) + p9) ((we1 ((8 * st) + p9)) + (we1 ((8 * ot) + k)))) tk fv) H := hW
      refine lv_iinc (v := iI (k + 1)) (lv' := [(3, .int (iI (k + 1))), (5, .int (iI p9)), (4, .int (iI im)), (0, .ref (a 0)), (1, .int (iI st)), (2, .int (iI ot))]) hx hb dX3_mergesCounters_87 hl (k := 5) rfl (iI_add _ _) (by decide) rfl (fun ls hl => ?_)
      refine lv_goto (tgt := 2) hx hb dX3_mergesCounters_90 (by decide) ?_
      exact ih_2 ((k + 1), co1, it1, (zu we1 ((8 * st) + p9) ((we1 ((8 * st) + p9)) + (we1 ((8 * ot) + k))))) _ _ (by show (0 ≤ (k + 1) ∧ (k + 1) ≤ co ot) ∧ ((co1, it1, (zu we1 ((8 * st) + p9) ((we1 ((8 * st) + p9)) + (we1 ((8 * ot) + k)))), tk) = mMg st ot (co, it, we, tk) (k + 1).toNat) ∧ (co1 ot = co ot ∧ 0 ≤ co1 st ∧ co1 st ≤ co st + (k + 1)) ∧ (∀ i9 : Int, 0 ≤ it1 i9 ∧ it1 i9 ≤ 63) ∧ (∀ j9 : Int, 0 ≤ j9 → j9 < co1 st → 0 ≤ (zu we1 ((8 * st) + p9) ((we1 ((8 * st) + p9)) + (we1 ((8 * ot) + k)))) (8 * st + j9) ∧ (zu we1 ((8 * st) + p9) ((we1 ((8 * st) + p9)) + (we1 ((8 * ot) + k)))) (8 * st + j9) ≤ 1000000 * ((k + 1) + 1)) ∧ (∀ j9 : Int, 0 ≤ j9 → j9 < co ot → (zu we1 ((8 * st) + p9) ((we1 ((8 * st) + p9)) + (we1 ((8 * ot) + k)))) (8 * ot + j9) = we (8 * ot + j9)); exact ⟨by omega, by rw [mMg_s (by omega), ← h2]; simp only [mMgS]; rw [← e_im, ← e_p9, if_neg (by omega)], by omega, h4, by intro j9 a9 b9; (by_cases hj : j9 = p9); (rw [hj, zu_s]; have := h5 p9 (by omega) (by omega); omega); (rw [zu_n (by omega)]; have := h5 j9 a9 b9; omega), by intro j9 a9 b9; rw [zu_n (by omega)]; exact h6 j9 a9 b9⟩) hW hS (by show (co ot - (k + 1)).toNat < (co ot - k).toNat; omega) ls (lv_sub hl [3, 4, 5, 0] rfl)
    · refine lv_aload_n hx hb dX3_mergesCounters_40 rfl (lv_at hl 2 rfl) ?_
      refine lv_iload_n hx hb dX3_mergesCounters_41 rfl (lv_at hl 3 rfl) ?_
      refine lv_iload hx hb dX3_mergesCounters_42 (lv_at hl 1 rfl) ?_
      refine lv_aload_n hx hb dX3_mergesCounters_44 rfl (lv_at hl 2 rfl) ?_
      refine w_getf (ci := 0) (v := .ref (a 6)) (C := RX3) (T := TX3) (N := 9) hx hb hts in_X3 hown hK hW 0 (by decide) rfl rfl 6 (by decide) (hts _ q801) (fun _ h9 => h9) rfl dX3_mergesCounters_45 ?_
      refine lv_bipush (v := iI 8) hx hb dX3_mergesCounters_48 (by rfl) ?_
      refine lv_iload_n hx hb dX3_mergesCounters_50 rfl (lv_at hl 4 rfl) ?_
      refine z_imul hx hb dX3_mergesCounters_51 ?_
      refine lv_iload_n hx hb dX3_mergesCounters_52 rfl (lv_at hl 5 rfl) ?_
      refine z_iadd hx hb dX3_mergesCounters_53 ?_
      refine w_iald hx hb hK hW 6 0 (by decide) (n := 32) (g := we1) rfl rfl (by omega) (by decide) dX3_mergesCounters_54 ?_
      refine va_callv (va_runV (As := [.int (iI st), .int (iI im), .int (iI (we1 ((8 * ot) + k)))]) (rest := []) ⟨hx, hb, hml, hown, hts⟩ (kX3_opens l D a kc th cn tt ce co1 it1 we1 tk fv _ st im (we1 ((8 * ot) + k)) (by omega) (by omega)) (cwV 3 hts (lw_V q878 q880 qs18 q33 q881) rfl rfl rfl (by decide +kernel) ⟨Nat.le_of_ble_eq_true rfl, Nat.le_of_ble_eq_true rfl⟩) ⟨mW_blind, w_recv hK hW 0 (by decide) rfl rfl, mW_pre hW hK hJ.any⟩ rfl rfl hl.1 rfl (lv_room (Nat.le_of_ble_eq_true rfl)) dX3_mergesCounters_55 ⟨Nat.le_of_ble_eq_true rfl, Nat.le_of_ble_eq_true rfl⟩) hS (fun q _ h => RA.mono hS.1 q h) (RA.mono hS.1) (fun u9 t9 H locs ht9 hvm9 hr9 hB9 hz9 hk9 hS => ?_)
      have hW : RW D clz mL a (mct a kc th cn tt ce ((mOpens st im (we1 ((8 * ot) + k)) (co1, it1, we1, tk)).1) ((mOpens st im (we1 ((8 * ot) + k)) (co1, it1, we1, tk)).2.1) ((mOpens st im (we1 ((8 * ot) + k)) (co1, it1, we1, tk)).2.2.1) ((mOpens st im (we1 ((8 * ot) + k)) (co1, it1, we1, tk)).2.2.2) fv) H := by rw [← ht9]; exact hB9
      refine lv_goto (tgt := 87) hx hb dX3_mergesCounters_58 (by decide) ?_
      refine lv_iinc (v := iI (k + 1)) (lv' := [(3, .int (iI (k + 1))), (5, .int (iI p9)), (4, .int (iI im)), (0, .ref (a 0)), (1, .int (iI st)), (2, .int (iI ot))]) hx hb dX3_mergesCounters_87 hl (k := 5) rfl (iI_add _ _) (by decide) rfl (fun ls hl => ?_)
      refine lv_goto (tgt := 2) hx hb dX3_mergesCounters_90 (by decide) ?_
      exact ih_2 ((k + 1), ((mOpens st im (we1 ((8 * ot) + k)) (co1, it1, we1, tk)).1), ((mOpens st im (we1 ((8 * ot) + k)) (co1, it1, we1, tk)).2.1), ((mOpens st im (we1 ((8 * ot) + k)) (co1, it1, we1, tk)).2.2.1)) _ _ (by show (0 ≤ (k + 1) ∧ (k + 1) ≤ co ot) ∧ ((((mOpens st im (we1 ((8 * ot) + k)) (co1, it1, we1, tk)).1), ((mOpens st im (we1 ((8 * ot) + k)) (co1, it1, we1, tk)).2.1), ((mOpens st im (we1 ((8 * ot) + k)) (co1, it1, we1, tk)).2.2.1), tk) = mMg st ot (co, it, we, tk) (k + 1).toNat) ∧ (((mOpens st im (we1 ((8 * ot) + k)) (co1, it1, we1, tk)).1) ot = co ot ∧ 0 ≤ ((mOpens st im (we1 ((8 * ot) + k)) (co1, it1, we1, tk)).1) st ∧ ((mOpens st im (we1 ((8 * ot) + k)) (co1, it1, we1, tk)).1) st ≤ co st + (k + 1)) ∧ (∀ i9 : Int, 0 ≤ ((mOpens st im (we1 ((8 * ot) + k)) (co1, it1, we1, tk)).2.1) i9 ∧ ((mOpens st im (we1 ((8 * ot) + k)) (co1, it1, we1, tk)).2.1) i9 ≤ 63) ∧ (∀ j9 : Int, 0 ≤ j9 → j9 < ((mOpens st im (we1 ((8 * ot) + k)) (co1, it1, we1, tk)).1) st → 0 ≤ ((mOpens st im (we1 ((8 * ot) + k)) (co1, it1, we1, tk)).2.2.1) (8 * st + j9) ∧ ((mOpens st im (we1 ((8 * ot) + k)) (co1, it1, we1, tk)).2.2.1) (8 * st + j9) ≤ 1000000 * ((k + 1) + 1)) ∧ (∀ j9 : Int, 0 ≤ j9 → j9 < co ot → ((mOpens st im (we1 ((8 * ot) + k)) (co1, it1, we1, tk)).2.2.1) (8 * ot + j9) = we (8 * ot + j9)); exact ⟨by omega, by rw [mMg_s (by omega), ← h2]; simp only [mMgS]; rw [← e_im, ← e_p9, if_pos (by omega)]; rfl, by show zu co1 st (co1 st + 1) ot = co ot ∧ 0 ≤ zu co1 st (co1 st + 1) st ∧ zu co1 st (co1 st + 1) st ≤ co st + (k + 1); rw [zu_n (by omega), zu_s]; omega, zu_all (P := fun z => 0 ≤ z ∧ z ≤ 63) h4 himb, by intro j9 a9 b9; show 0 ≤ zu we1 (8 * st + co1 st) (we1 ((8 * ot) + k)) (8 * st + j9) ∧ zu we1 (8 * st + co1 st) (we1 ((8 * ot) + k)) (8 * st + j9) ≤ _; have b8 : j9 < zu co1 st (co1 st + 1) st := b9; rw [zu_s] at b8; (by_cases hj : j9 = co1 st); (rw [hj, zu_s]; omega); (rw [zu_n (by omega)]; have := h5 j9 a9 (by omega); omega), by intro j9 a9 b9; show zu we1 (8 * st + co1 st) (we1 ((8 * ot) + k)) (8 * ot + j9) = _; rw [zu_n (by omega)]; exact h6 j9 a9 b9⟩) hW hS (by show (co ot - (k + 1)).toNat < (co ot - k).toNat; omega) ls (lv_sub hl [3, 4, 5, 0] rfl)

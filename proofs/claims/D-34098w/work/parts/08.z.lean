/-! numbers as integers: iI, lI; rows of the walk that keep them so -/
def iI (z : Int) : Int32 := Int32.ofInt z
def lI (z : Int) : Int64 := Int64.ofInt z
/-- a truth value as a number -/
def zb (p : Prop) [Decidable p] : Int := if p then 1 else 0
theorem iI_toInt {z : Int} (h : -2147483648 ≤ z ∧ z ≤ 2147483647) : (iI z).toInt = z := Int32.toInt_ofInt_of_le (by omega) (by omega)
theorem lI_toInt {z : Int} (h : -9223372036854775808 ≤ z ∧ z ≤ 9223372036854775807) : (lI z).toInt = z := Int64.toInt_ofInt_of_le (by omega) (by omega)
theorem iI_of (x : Int32) : iI x.toInt = x := Int32.ofInt_toInt x
theorem iI_rng (x : Int32) : -2147483648 ≤ x.toInt ∧ x.toInt ≤ 2147483647 := by
  have h1 := x.toInt_lt
  have h2 := x.le_toInt
  omega
theorem iI_n (n : Nat) : iI (n : Int) = nI n := Int32.ofInt_eq_ofNat
theorem iI_nat {z : Int} (h : 0 ≤ z) : iI z = nI z.toNat := by
  rw [← iI_n]
  congr 1
  omega
theorem iI_add (a b : Int) : iI a + iI b = iI (a + b) := (Int32.ofInt_add a b).symm
theorem iI_sub (a b : Int) : iI a - iI b = iI (a - b) := (Int32.ofInt_sub a b).symm
theorem iI_mul (a b : Int) : iI a * iI b = iI (a * b) := (Int32.ofInt_mul a b).symm
theorem iI_neg (a : Int) : -iI a = iI (-a) := (Int32.ofInt_neg a).symm
theorem lI_add (a b : Int) : lI a + lI b = lI (a + b) := (Int64.ofInt_add a b).symm
theorem lI_sub (a b : Int) : lI a - lI b = lI (a - b) := (Int64.ofInt_sub a b).symm
theorem lI_mul (a b : Int) : lI a * lI b = lI (a * b) := (Int64.ofInt_mul a b).symm
theorem iI_lt {a b : Int} (ha : -2147483648 ≤ a ∧ a ≤ 2147483647) (hb : -2147483648 ≤ b ∧ b ≤ 2147483647) : iI a < iI b ↔ a < b := by
  rw [Int32.lt_iff_toInt_lt, iI_toInt ha, iI_toInt hb]
theorem iI_le {a b : Int} (ha : -2147483648 ≤ a ∧ a ≤ 2147483647) (hb : -2147483648 ≤ b ∧ b ≤ 2147483647) : iI a ≤ iI b ↔ a ≤ b := by
  rw [Int32.le_iff_toInt_le, iI_toInt ha, iI_toInt hb]
theorem iI_eq {a b : Int} (ha : -2147483648 ≤ a ∧ a ≤ 2147483647) (hb : -2147483648 ≤ b ∧ b ≤ 2147483647) : iI a = iI b ↔ a = b := by
  rw [← Int32.toInt_inj, iI_toInt ha, iI_toInt hb]
theorem lI_lt {a b : Int} (ha : -9223372036854775808 ≤ a ∧ a ≤ 9223372036854775807) (hb : -9223372036854775808 ≤ b ∧ b ≤ 9223372036854775807) : lI a < lI b ↔ a < b := by
  rw [Int64.lt_iff_toInt_lt, lI_toInt ha, lI_toInt hb]
theorem lI_eq {a b : Int} (ha : -9223372036854775808 ≤ a ∧ a ≤ 9223372036854775807) (hb : -9223372036854775808 ≤ b ∧ b ≤ 9223372036854775807) : lI a = lI b ↔ a = b := by
  rw [← Int64.toInt_inj, lI_toInt ha, lI_toInt hb]
theorem iI_0 : iI 0 = 0 := rfl
theorem iI_clamp {z : Int} (h0 : 0 ≤ z) (h : z ≤ 2147483647) : (iI z).toNatClampNeg = z.toNat := by
  rw [iI_nat h0]
  exact nI_clamp (by omega)
theorem iI_in {z : Int} {n : Nat} (h0 : 0 ≤ z) (h : z < n) (hn : n ≤ 1000000) : vp_in (iI z) n := by
  rw [iI_nat h0]
  exact vp_in_nI (by omega) (by omega)
theorem iI_l {a : Int} (h : -2147483648 ≤ a ∧ a ≤ 2147483647) : (iI a).toInt64 = lI a := by
  apply Int64.toInt_inj.mp
  rw [Int32.toInt_toInt64, iI_toInt h, lI_toInt (by omega)]
theorem lI_i (a : Int) : (lI a).toInt32 = iI a := Int64.toInt32_ofInt
theorem iI_rem {a b : Int} (ha : 0 ≤ a ∧ a ≤ 2147483647) (hb : 0 < b ∧ b ≤ 2147483647) : iI a - iI a / iI b * iI b = iI (a % b) := by
  rw [iI_nat (z := a) (by omega), iI_nat (z := b) (by omega), pk_rem (by omega) (by omega) (by omega), ← iI_n]
  congr 1
  rw [Int.natCast_emod, Int.toNat_of_nonneg (by omega), Int.toNat_of_nonneg (by omega)]
theorem zk_sh : ∀ k : Fin 32, ((Int32.ofInt ((k : Nat) : Int) &&& 31).toBitVec.smod 32).toNat = (k : Nat) := by decide +kernel
theorem zk_sh1 {k : Int} (h : 0 ≤ k ∧ k ≤ 31) : ((iI k &&& 31).toBitVec.smod 32).toNat = k.toNat := by
  have h1 := zk_sh ⟨k.toNat, by omega⟩
  rw [show (((⟨k.toNat, by omega⟩ : Fin 32) : Nat) : Int) = k from by show ((k.toNat : Nat) : Int) = k; omega] at h1
  exact h1
theorem iI_shl {a k : Int} (ha : 0 ≤ a) (hk : 0 ≤ k ∧ k ≤ 31) (h : a.toNat * 2 ^ k.toNat < 4294967296) : iI a <<< (iI k &&& 31) = iI (a * 2 ^ k.toNat) := by
  rw [iI_nat ha, pk_shlN _ k.toNat (zk_sh1 hk) (by omega), ← iI_n]
  congr 1
  rw [Int.natCast_mul, Int.toNat_of_nonneg ha, Int.natCast_pow]
  rfl
theorem iI_shr {a k : Int} (ha : 0 ≤ a ∧ a ≤ 2147483647) (hk : 0 ≤ k ∧ k ≤ 31) : iI a >>> (iI k &&& 31) = iI (a / 2 ^ k.toNat) := by
  rw [iI_nat ha.1, pk_shrN (by omega) _ k.toNat (zk_sh1 hk), ← iI_n]
  congr 1
  rw [Int.natCast_ediv, Int.toNat_of_nonneg ha.1, Int.natCast_pow]
  rfl
theorem iI_bits (a : Int) : (iI a).toBitVec.toNat = (a % 4294967296).toNat := by
  show (BitVec.ofInt 32 a).toNat = _
  rw [BitVec.toNat_ofInt]
  rfl
theorem iI_and1 (a : Int) : iI a &&& iI 1 = iI (a % 2) := by
  rw [pk_and (iI a) (m := iI 1) 1 (by decide), iI_bits, ← iI_n]
  congr 1
  omega
theorem iI_and31 (a : Int) : iI a &&& iI 31 = iI (a % 32) := by
  rw [pk_and (iI a) (m := iI 31) 5 (by decide), iI_bits, ← iI_n]
  congr 1
  omega
/-- a function changed at a place -/
def zu {α : Type} (g : Int → α) (i : Int) (x : α) : Int → α := fun j => if j = i then x else g j
theorem zu_s {α : Type} {g : Int → α} {i : Int} {x : α} : zu g i x i = x := by simp [zu]
theorem zu_n {α : Type} {g : Int → α} {i j : Int} {x : α} (h : j ≠ i) : zu g i x j = g j := by simp [zu, h]
/-- cells of arrays: of ints, of longs, of references -/
def eI (c : ClassId) (n : Nat) (g : Int → Int) : va_E := .inl (c, n, .inl (fun j : Nat => iI (g (j : Int))))
def eL (c : ClassId) (n : Nat) (g : Int → Int) : va_E := .inl (c, n, .inr (.inl (fun j : Nat => lI (g (j : Int)))))
def eQ (c : ClassId) (n : Nat) (g : Int → Option Nat) : va_E := .inl (c, n, .inr (.inr (.inr (.inr (fun j : Nat => g (j : Int))))))
theorem va_P1 {D : va_G} {cl : List vw_C} {a : Nat} {e : va_E} {H : Heap} (h : va_at D cl (a, e) H) : va_P D cl [(a, e)] H := by
  intro k q hk
  have hz : k < 1 := (List.getElem?_eq_some_iff.mp hk).1
  rw [show k = 0 by omega] at hk
  cases hk
  exact h
theorem zu_upd {g : Int → Int} {i x : Int} (h0 : 0 ≤ i) (h : i ≤ 2147483647) : upd (fun j : Nat => iI (g (j : Int))) (iI i).toNatClampNeg (iI x) = fun j : Nat => iI (zu g i x (j : Int)) := by
  rw [iI_clamp h0 h]
  funext j
  by_cases hj : j = i.toNat
  · subst hj
    rw [show ((i.toNat : Nat) : Int) = i by omega, zu_s]
    simp [upd]
  · rw [zu_n (show (j : Int) ≠ i by omega)]
    simp [upd, hj]
theorem zu_updL {g : Int → Int} {i x : Int} (h0 : 0 ≤ i) (h : i ≤ 2147483647) : vp_updL (fun j : Nat => lI (g (j : Int))) (iI i).toNatClampNeg (lI x) = fun j : Nat => lI (zu g i x (j : Int)) := by
  rw [iI_clamp h0 h]
  funext j
  by_cases hj : j = i.toNat
  · subst hj
    rw [show ((i.toNat : Nat) : Int) = i by omega, zu_s]
    simp [vp_updL]
  · rw [zu_n (show (j : Int) ≠ i by omega)]
    simp [vp_updL, hj]
theorem zu_updQ {g : Int → Option Nat} {i : Int} {x : Option Nat} (h0 : 0 ≤ i) (h : i ≤ 2147483647) : va_up (fun j : Nat => g (j : Int)) (iI i).toNatClampNeg x = fun j : Nat => zu g i x (j : Int) := by
  rw [iI_clamp h0 h]
  funext j
  by_cases hj : j = i.toNat
  · subst hj
    rw [show ((i.toNat : Nat) : Int) = i by omega, zu_s]
    simp [va_up]
  · rw [zu_n (show (j : Int) ≠ i by omega)]
    simp [va_up, hj]
section ZR
variable {p : Program} {l : Launch} {e : Env} {R : Room} {s : State} {m : MethodId} {args : Array Value} {below : List Frame} {meth : Method} {c : Code} {H : Heap} {locs : List Loc} {cells slots : Nat} {Q : State → Prop}
variable {cc : ByteArray} {pc : Nat} {ls : Array Slot} {rest : List Value}
theorem z_top {x : Int} (k : ∀ y : Int, y = x → W p l e R s m args below meth c H locs cells slots Q (F0 m pc ls (.int (iI y) :: rest))) : W p l e R s m args below meth c H locs cells slots Q (F0 m pc ls (.int (iI x) :: rest)) := k x rfl
theorem z_topL {x : Int} (k : ∀ y : Int, y = x → W p l e R s m args below meth c H locs cells slots Q (F0 m pc ls (.long (lI y) :: rest))) : W p l e R s m args below meth c H locs cells slots Q (F0 m pc ls (.long (lI x) :: rest)) := k x rfl
theorem z_as {x : Int} (y : Int) (h : x = y) (k : W p l e R s m args below meth c H locs cells slots Q (F0 m pc ls (.int (iI y) :: rest))) : W p l e R s m args below meth c H locs cells slots Q (F0 m pc ls (.int (iI x) :: rest)) := by subst h; exact k
theorem z_asL {x : Int} (y : Int) (h : x = y) (k : W p l e R s m args below meth c H locs cells slots Q (F0 m pc ls (.long (lI y) :: rest))) : W p l e R s m args below meth c H locs cells slots Q (F0 m pc ls (.long (lI x) :: rest)) := by subst h; exact k
theorem z_iadd (hexec : p.tables.exec = Jvm.exec) (hb : c.code = cc) {x y : Int} (hdg : decode cc pc = .ok (.iadd, 1)) (k : W p l e R s m args below meth c H locs cells slots Q (F0 m (pc + 1) ls (.int (iI (x + y)) :: rest))) : W p l e R s m args below meth c H locs cells slots Q (F0 m pc ls (.int (iI y) :: .int (iI x) :: rest)) := lv_iadd hexec hb hdg (by rw [iI_add]; exact k)
theorem z_isub (hexec : p.tables.exec = Jvm.exec) (hb : c.code = cc) {x y : Int} (hdg : decode cc pc = .ok (.isub, 1)) (k : W p l e R s m args below meth c H locs cells slots Q (F0 m (pc + 1) ls (.int (iI (x - y)) :: rest))) : W p l e R s m args below meth c H locs cells slots Q (F0 m pc ls (.int (iI y) :: .int (iI x) :: rest)) := lv_isub hexec hb hdg (by rw [iI_sub]; exact k)
theorem z_imul (hexec : p.tables.exec = Jvm.exec) (hb : c.code = cc) {x y : Int} (hdg : decode cc pc = .ok (.imul, 1)) (k : W p l e R s m args below meth c H locs cells slots Q (F0 m (pc + 1) ls (.int (iI (x * y)) :: rest))) : W p l e R s m args below meth c H locs cells slots Q (F0 m pc ls (.int (iI y) :: .int (iI x) :: rest)) := lv_imul hexec hb hdg (by rw [iI_mul]; exact k)
theorem z_irem (hexec : p.tables.exec = Jvm.exec) (hb : c.code = cc) {x y : Int} (hdg : decode cc pc = .ok (.irem, 1)) (hx : 0 ≤ x ∧ x ≤ 2147483647) (hy : 0 < y ∧ y ≤ 2147483647) (k : W p l e R s m args below meth c H locs cells slots Q (F0 m (pc + 1) ls (.int (iI (x % y)) :: rest))) : W p l e R s m args below meth c H locs cells slots Q (F0 m pc ls (.int (iI y) :: .int (iI x) :: rest)) := lv_irem hexec hb hdg (fun h => by have h1 := iI_toInt (z := y) (by omega); rw [h, Int32.toInt_zero] at h1; omega) (by rw [iI_rem hx hy]; exact k)
theorem z_ineg (hexec : p.tables.exec = Jvm.exec) (hb : c.code = cc) {x : Int} (hdg : decode cc pc = .ok (.ineg, 1)) (k : W p l e R s m args below meth c H locs cells slots Q (F0 m (pc + 1) ls (.int (iI (-x)) :: rest))) : W p l e R s m args below meth c H locs cells slots Q (F0 m pc ls (.int (iI x) :: rest)) := lv_ineg hexec hb hdg (by rw [iI_neg]; exact k)
theorem z_ishl (hexec : p.tables.exec = Jvm.exec) (hb : c.code = cc) {x y : Int} (hdg : decode cc pc = .ok (.ishl, 1)) (hx : 0 ≤ x) (hy : 0 ≤ y ∧ y ≤ 31) (h : x.toNat * 2 ^ y.toNat < 4294967296) (k : W p l e R s m args below meth c H locs cells slots Q (F0 m (pc + 1) ls (.int (iI (x * 2 ^ y.toNat)) :: rest))) : W p l e R s m args below meth c H locs cells slots Q (F0 m pc ls (.int (iI y) :: .int (iI x) :: rest)) := lv_ishl hexec hb hdg (by rw [iI_shl hx hy h]; exact k)
theorem z_ishr (hexec : p.tables.exec = Jvm.exec) (hb : c.code = cc) {x y : Int} (hdg : decode cc pc = .ok (.ishr, 1)) (hx : 0 ≤ x ∧ x ≤ 2147483647) (hy : 0 ≤ y ∧ y ≤ 31) (k : W p l e R s m args below meth c H locs cells slots Q (F0 m (pc + 1) ls (.int (iI (x / 2 ^ y.toNat)) :: rest))) : W p l e R s m args below meth c H locs cells slots Q (F0 m pc ls (.int (iI y) :: .int (iI x) :: rest)) := lv_ishr hexec hb hdg (by rw [iI_shr hx hy]; exact k)
theorem z_iand1 (hexec : p.tables.exec = Jvm.exec) (hb : c.code = cc) {x : Int} (hdg : decode cc pc = .ok (.iand, 1)) (k : W p l e R s m args below meth c H locs cells slots Q (F0 m (pc + 1) ls (.int (iI (x % 2)) :: rest))) : W p l e R s m args below meth c H locs cells slots Q (F0 m pc ls (.int (iI 1) :: .int (iI x) :: rest)) := lv_iand hexec hb hdg (by rw [iI_and1]; exact k)
theorem z_iand31 (hexec : p.tables.exec = Jvm.exec) (hb : c.code = cc) {x : Int} (hdg : decode cc pc = .ok (.iand, 1)) (k : W p l e R s m args below meth c H locs cells slots Q (F0 m (pc + 1) ls (.int (iI (x % 32)) :: rest))) : W p l e R s m args below meth c H locs cells slots Q (F0 m pc ls (.int (iI 31) :: .int (iI x) :: rest)) := lv_iand hexec hb hdg (by rw [iI_and31]; exact k)
theorem z_i2l (hexec : p.tables.exec = Jvm.exec) (hb : c.code = cc) {x : Int} (hdg : decode cc pc = .ok (.i2l, 1)) (h : -2147483648 ≤ x ∧ x ≤ 2147483647) (k : W p l e R s m args below meth c H locs cells slots Q (F0 m (pc + 1) ls (.long (lI x) :: rest))) : W p l e R s m args below meth c H locs cells slots Q (F0 m pc ls (.int (iI x) :: rest)) := lv_i2l hexec hb hdg (iI_l h) k
theorem z_l2i (hexec : p.tables.exec = Jvm.exec) (hb : c.code = cc) {x : Int} (hdg : decode cc pc = .ok (.l2i, 1)) (k : W p l e R s m args below meth c H locs cells slots Q (F0 m (pc + 1) ls (.int (iI x) :: rest))) : W p l e R s m args below meth c H locs cells slots Q (F0 m pc ls (.long (lI x) :: rest)) := lv_l2i hexec hb hdg (lI_i x) k
theorem z_ladd (hexec : p.tables.exec = Jvm.exec) (hb : c.code = cc) {x y : Int} (hdg : decode cc pc = .ok (.ladd, 1)) (k : W p l e R s m args below meth c H locs cells slots Q (F0 m (pc + 1) ls (.long (lI (x + y)) :: rest))) : W p l e R s m args below meth c H locs cells slots Q (F0 m pc ls (.long (lI y) :: .long (lI x) :: rest)) := lv_ladd hexec hb hdg (by rw [lI_add]; exact k)
theorem z_lmul (hexec : p.tables.exec = Jvm.exec) (hb : c.code = cc) {x y : Int} (hdg : decode cc pc = .ok (.lmul, 1)) (k : W p l e R s m args below meth c H locs cells slots Q (F0 m (pc + 1) ls (.long (lI (x * y)) :: rest))) : W p l e R s m args below meth c H locs cells slots Q (F0 m pc ls (.long (lI y) :: .long (lI x) :: rest)) := lv_lmul hexec hb hdg (by rw [lI_mul]; exact k)
/-- a comparison of longs as a number -/
def zcmp (x y : Int) : Int := if y < x then 1 else if x = y then 0 else -1
theorem z_lcmp (hexec : p.tables.exec = Jvm.exec) (hb : c.code = cc) {x y : Int} (hdg : decode cc pc = .ok (.lcmp, 1)) (hx : -9223372036854775808 ≤ x ∧ x ≤ 9223372036854775807) (hy : -9223372036854775808 ≤ y ∧ y ≤ 9223372036854775807) (k : W p l e R s m args below meth c H locs cells slots Q (F0 m (pc + 1) ls (.int (iI (zcmp x y)) :: rest))) : W p l e R s m args below meth c H locs cells slots Q (F0 m pc ls (.long (lI y) :: .long (lI x) :: rest)) := by
  refine W.lcmp hexec hb hdg ?_
  have h : lg_cmp (lI x) (lI y) = iI (zcmp x y) := by
    unfold lg_cmp zcmp
    by_cases h1 : y < x
    · rw [if_pos h1, if_pos ((lI_lt hy hx).mpr h1)]; rfl
    · by_cases h2 : x = y
      · rw [if_neg h1, if_pos h2, if_neg (fun q => h1 ((lI_lt hy hx).mp q)), if_pos ((lI_eq hx hy).mpr h2)]; rfl
      · rw [if_neg h1, if_neg h2, if_neg (fun q => h1 ((lI_lt hy hx).mp q)), if_neg (fun q => h2 ((lI_eq hx hy).mp q))]; rfl
  rw [h]
  exact k
theorem z_if_eq (hexec : p.tables.exec = Jvm.exec) (hb : c.code = cc) {x : Int} {off : Int} {tgt : Nat} (hdg : decode cc pc = .ok (.ifCond .eq off, 3)) (ht : (pc : Int) + off = (tgt : Int)) (hx : -2147483648 ≤ x ∧ x ≤ 2147483647) (kt : x = 0 → W p l e R s m args below meth c H locs cells slots Q (F0 m tgt ls rest)) (kf : ¬ x = 0 → W p l e R s m args below meth c H locs cells slots Q (F0 m (pc + 3) ls rest)) : W p l e R s m args below meth c H locs cells slots Q (F0 m pc ls (.int (iI x) :: rest)) :=
  lv_if_eq hexec hb hdg ht (fun h => kt ((iI_eq hx (by omega)).mp (h.trans iI_0.symm))) (fun h => kf (fun q => h (((iI_eq hx (by omega)).mpr q).trans iI_0)))
theorem z_if_ne (hexec : p.tables.exec = Jvm.exec) (hb : c.code = cc) {x : Int} {off : Int} {tgt : Nat} (hdg : decode cc pc = .ok (.ifCond .ne off, 3)) (ht : (pc : Int) + off = (tgt : Int)) (hx : -2147483648 ≤ x ∧ x ≤ 2147483647) (kt : ¬ x = 0 → W p l e R s m args below meth c H locs cells slots Q (F0 m tgt ls rest)) (kf : x = 0 → W p l e R s m args below meth c H locs cells slots Q (F0 m (pc + 3) ls rest)) : W p l e R s m args below meth c H locs cells slots Q (F0 m pc ls (.int (iI x) :: rest)) :=
  lv_if_ne hexec hb hdg ht (fun h => kt (fun q => h (((iI_eq hx (by omega)).mpr q).trans iI_0))) (fun h => kf ((iI_eq hx (by omega)).mp (h.trans iI_0.symm)))
theorem z_if_lt (hexec : p.tables.exec = Jvm.exec) (hb : c.code = cc) {x : Int} {off : Int} {tgt : Nat} (hdg : decode cc pc = .ok (.ifCond .lt off, 3)) (ht : (pc : Int) + off = (tgt : Int)) (hx : -2147483648 ≤ x ∧ x ≤ 2147483647) (kt : x < 0 → W p l e R s m args below meth c H locs cells slots Q (F0 m tgt ls rest)) (kf : ¬ x < 0 → W p l e R s m args below meth c H locs cells slots Q (F0 m (pc + 3) ls rest)) : W p l e R s m args below meth c H locs cells slots Q (F0 m pc ls (.int (iI x) :: rest)) :=
  lv_if_lt hexec hb hdg ht (fun h => kt ((iI_lt hx (by omega)).mp h)) (fun h => kf (fun q => h ((iI_lt hx (by omega)).mpr q)))
theorem z_if_ge (hexec : p.tables.exec = Jvm.exec) (hb : c.code = cc) {x : Int} {off : Int} {tgt : Nat} (hdg : decode cc pc = .ok (.ifCond .ge off, 3)) (ht : (pc : Int) + off = (tgt : Int)) (hx : -2147483648 ≤ x ∧ x ≤ 2147483647) (kt : 0 ≤ x → W p l e R s m args below meth c H locs cells slots Q (F0 m tgt ls rest)) (kf : ¬ 0 ≤ x → W p l e R s m args below meth c H locs cells slots Q (F0 m (pc + 3) ls rest)) : W p l e R s m args below meth c H locs cells slots Q (F0 m pc ls (.int (iI x) :: rest)) :=
  lv_if_ge hexec hb hdg ht (fun h => kt ((iI_le (by omega) hx).mp h)) (fun h => kf (fun q => h ((iI_le (by omega) hx).mpr q)))
theorem z_if_gt (hexec : p.tables.exec = Jvm.exec) (hb : c.code = cc) {x : Int} {off : Int} {tgt : Nat} (hdg : decode cc pc = .ok (.ifCond .gt off, 3)) (ht : (pc : Int) + off = (tgt : Int)) (hx : -2147483648 ≤ x ∧ x ≤ 2147483647) (kt : 0 < x → W p l e R s m args below meth c H locs cells slots Q (F0 m tgt ls rest)) (kf : ¬ 0 < x → W p l e R s m args below meth c H locs cells slots Q (F0 m (pc + 3) ls rest)) : W p l e R s m args below meth c H locs cells slots Q (F0 m pc ls (.int (iI x) :: rest)) :=
  lv_if_gt hexec hb hdg ht (fun h => kt ((iI_lt (by omega) hx).mp h)) (fun h => kf (fun q => h ((iI_lt (by omega) hx).mpr q)))
theorem z_if_le (hexec : p.tables.exec = Jvm.exec) (hb : c.code = cc) {x : Int} {off : Int} {tgt : Nat} (hdg : decode cc pc = .ok (.ifCond .le off, 3)) (ht : (pc : Int) + off = (tgt : Int)) (hx : -2147483648 ≤ x ∧ x ≤ 2147483647) (kt : x ≤ 0 → W p l e R s m args below meth c H locs cells slots Q (F0 m tgt ls rest)) (kf : ¬ x ≤ 0 → W p l e R s m args below meth c H locs cells slots Q (F0 m (pc + 3) ls rest)) : W p l e R s m args below meth c H locs cells slots Q (F0 m pc ls (.int (iI x) :: rest)) :=
  lv_if_le hexec hb hdg ht (fun h => kt ((iI_le hx (by omega)).mp h)) (fun h => kf (fun q => h ((iI_le hx (by omega)).mpr q)))
theorem z_icmp_eq (hexec : p.tables.exec = Jvm.exec) (hb : c.code = cc) {x y : Int} {off : Int} {tgt : Nat} (hdg : decode cc pc = .ok (.if_icmp .eq off, 3)) (ht : (pc : Int) + off = (tgt : Int)) (hx : -2147483648 ≤ x ∧ x ≤ 2147483647) (hy : -2147483648 ≤ y ∧ y ≤ 2147483647) (kt : x = y → W p l e R s m args below meth c H locs cells slots Q (F0 m tgt ls rest)) (kf : ¬ x = y → W p l e R s m args below meth c H locs cells slots Q (F0 m (pc + 3) ls rest)) : W p l e R s m args below meth c H locs cells slots Q (F0 m pc ls (.int (iI y) :: .int (iI x) :: rest)) :=
  lv_icmp_eq hexec hb hdg ht (fun h => kt ((iI_eq hx hy).mp h)) (fun h => kf (fun q => h ((iI_eq hx hy).mpr q)))
theorem z_icmp_ne (hexec : p.tables.exec = Jvm.exec) (hb : c.code = cc) {x y : Int} {off : Int} {tgt : Nat} (hdg : decode cc pc = .ok (.if_icmp .ne off, 3)) (ht : (pc : Int) + off = (tgt : Int)) (hx : -2147483648 ≤ x ∧ x ≤ 2147483647) (hy : -2147483648 ≤ y ∧ y ≤ 2147483647) (kt : ¬ x = y → W p l e R s m args below meth c H locs cells slots Q (F0 m tgt ls rest)) (kf : x = y → W p l e R s m args below meth c H locs cells slots Q (F0 m (pc + 3) ls rest)) : W p l e R s m args below meth c H locs cells slots Q (F0 m pc ls (.int (iI y) :: .int (iI x) :: rest)) :=
  lv_icmp_ne hexec hb hdg ht (fun h => kt (fun q => h ((iI_eq hx hy).mpr q))) (fun h => kf ((iI_eq hx hy).mp h))
theorem z_icmp_lt (hexec : p.tables.exec = Jvm.exec) (hb : c.code = cc) {x y : Int} {off : Int} {tgt : Nat} (hdg : decode cc pc = .ok (.if_icmp .lt off, 3)) (ht : (pc : Int) + off = (tgt : Int)) (hx : -2147483648 ≤ x ∧ x ≤ 2147483647) (hy : -2147483648 ≤ y ∧ y ≤ 2147483647) (kt : x < y → W p l e R s m args below meth c H locs cells slots Q (F0 m tgt ls rest)) (kf : ¬ x < y → W p l e R s m args below meth c H locs cells slots Q (F0 m (pc + 3) ls rest)) : W p l e R s m args below meth c H locs cells slots Q (F0 m pc ls (.int (iI y) :: .int (iI x) :: rest)) :=
  lv_icmp_lt hexec hb hdg ht (fun h => kt ((iI_lt hx hy).mp h)) (fun h => kf (fun q => h ((iI_lt hx hy).mpr q)))
theorem z_icmp_ge (hexec : p.tables.exec = Jvm.exec) (hb : c.code = cc) {x y : Int} {off : Int} {tgt : Nat} (hdg : decode cc pc = .ok (.if_icmp .ge off, 3)) (ht : (pc : Int) + off = (tgt : Int)) (hx : -2147483648 ≤ x ∧ x ≤ 2147483647) (hy : -2147483648 ≤ y ∧ y ≤ 2147483647) (kt : y ≤ x → W p l e R s m args below meth c H locs cells slots Q (F0 m tgt ls rest)) (kf : ¬ y ≤ x → W p l e R s m args below meth c H locs cells slots Q (F0 m (pc + 3) ls rest)) : W p l e R s m args below meth c H locs cells slots Q (F0 m pc ls (.int (iI y) :: .int (iI x) :: rest)) :=
  lv_icmp_ge hexec hb hdg ht (fun h => kt ((iI_le hy hx).mp h)) (fun h => kf (fun q => h ((iI_le hy hx).mpr q)))
theorem z_icmp_gt (hexec : p.tables.exec = Jvm.exec) (hb : c.code = cc) {x y : Int} {off : Int} {tgt : Nat} (hdg : decode cc pc = .ok (.if_icmp .gt off, 3)) (ht : (pc : Int) + off = (tgt : Int)) (hx : -2147483648 ≤ x ∧ x ≤ 2147483647) (hy : -2147483648 ≤ y ∧ y ≤ 2147483647) (kt : y < x → W p l e R s m args below meth c H locs cells slots Q (F0 m tgt ls rest)) (kf : ¬ y < x → W p l e R s m args below meth c H locs cells slots Q (F0 m (pc + 3) ls rest)) : W p l e R s m args below meth c H locs cells slots Q (F0 m pc ls (.int (iI y) :: .int (iI x) :: rest)) :=
  lv_icmp_gt hexec hb hdg ht (fun h => kt ((iI_lt hy hx).mp h)) (fun h => kf (fun q => h ((iI_lt hy hx).mpr q)))
theorem z_icmp_le (hexec : p.tables.exec = Jvm.exec) (hb : c.code = cc) {x y : Int} {off : Int} {tgt : Nat} (hdg : decode cc pc = .ok (.if_icmp .le off, 3)) (ht : (pc : Int) + off = (tgt : Int)) (hx : -2147483648 ≤ x ∧ x ≤ 2147483647) (hy : -2147483648 ≤ y ∧ y ≤ 2147483647) (kt : x ≤ y → W p l e R s m args below meth c H locs cells slots Q (F0 m tgt ls rest)) (kf : ¬ x ≤ y → W p l e R s m args below meth c H locs cells slots Q (F0 m (pc + 3) ls rest)) : W p l e R s m args below meth c H locs cells slots Q (F0 m pc ls (.int (iI y) :: .int (iI x) :: rest)) :=
  lv_icmp_le hexec hb hdg ht (fun h => kt ((iI_le hx hy).mp h)) (fun h => kf (fun q => h ((iI_le hx hy).mpr q)))
/-- two ways that meet again: the meeting point is walked once, with the value as an 'if' -/
theorem z_dia {P : Prop} [Decidable P] {x y : Int} {pcM : Nat} {g : JFrame} (kk : W p l e R s m args below meth c H locs cells slots Q (F0 m pcM ls (.int (iI (if P then x else y)) :: rest))) (hs : (P → W p l e R s m args below meth c H locs cells slots Q (F0 m pcM ls (.int (iI x) :: rest))) → (¬ P → W p l e R s m args below meth c H locs cells slots Q (F0 m pcM ls (.int (iI y) :: rest))) → W p l e R s m args below meth c H locs cells slots Q g) : W p l e R s m args below meth c H locs cells slots Q g :=
  hs (fun h => by rw [if_pos h] at kk; exact kk) (fun h => by rw [if_neg h] at kk; exact kk)
theorem z_diaL {P : Prop} [Decidable P] {x y : Int} {pcM : Nat} {g : JFrame} (kk : W p l e R s m args below meth c H locs cells slots Q (F0 m pcM ls (.long (lI (if P then x else y)) :: rest))) (hs : (P → W p l e R s m args below meth c H locs cells slots Q (F0 m pcM ls (.long (lI x) :: rest))) → (¬ P → W p l e R s m args below meth c H locs cells slots Q (F0 m pcM ls (.long (lI y) :: rest))) → W p l e R s m args below meth c H locs cells slots Q g) : W p l e R s m args below meth c H locs cells slots Q g :=
  hs (fun h => by rw [if_pos h] at kk; exact kk) (fun h => by rw [if_neg h] at kk; exact kk)
/-- a place that several ways reach with one value -/
theorem z_join (v : Int) {pcM : Nat} {g : JFrame} (kk : W p l e R s m args below meth c H locs cells slots Q (F0 m pcM ls (.int (iI v) :: rest))) (hs : (∀ w : Int, w = v → W p l e R s m args below meth c H locs cells slots Q (F0 m pcM ls (.int (iI w) :: rest))) → W p l e R s m args below meth c H locs cells slots Q g) : W p l e R s m args below meth c H locs cells slots Q g :=
  hs (fun w h => by subst h; exact kk)
end ZR
/-! loops -/
section ZL
variable {p : Program} {l : Launch} {e : Env} {R : Room} {s : State} {m : MethodId} {args : Array Value} {below : List Frame} {meth : Method} {c : Code} {Q : State → Prop}
variable {pc nL : Nat} {st : List Value}
/-- a loop that writes no cell -/
theorem z_loopR {σ : Type} {H : Heap} {locs : List Loc} {cells slots : Nat} (lv : σ → List (Nat × Value)) (I : σ → Prop) (μ : σ → Nat) (step : ∀ x : σ, I x → (∀ y : σ, I y → μ y < μ x → ∀ ls : Array Slot, lv_has ls nL (lv y) → W p l e R s m args below meth c H locs cells slots Q (F0 m pc ls st)) → ∀ ls : Array Slot, lv_has ls nL (lv x) → W p l e R s m args below meth c H locs cells slots Q (F0 m pc ls st)) (x : σ) (h : I x) {ls : Array Slot} (hl : lv_has ls nL (lv x)) : W p l e R s m args below meth c H locs cells slots Q (F0 m pc ls st) := by
  have key : ∀ (n : Nat) (x : σ), μ x < n → I x → ∀ ls : Array Slot, lv_has ls nL (lv x) → W p l e R s m args below meth c H locs cells slots Q (F0 m pc ls st) := by
    intro n
    induction n with
    | zero => intro x hx; exact absurd hx (Nat.not_lt_zero _)
    | succ n ih => intro x hx hI ls hl; exact step x hI (fun y hy hm ls2 hl2 => ih y (by omega) hy ls2 hl2) ls hl
  exact key (μ x + 1) x (by omega) h ls hl
/-- a loop that writes cells, and makes none -/
theorem z_loopW {σ : Type} {cells slots : Nat} {A : Nat → Prop} {H0 : Heap} (lv : σ → List (Nat × Value)) (I : σ → Prop) (P : σ → Heap → Prop) (μ : σ → Nat) (step : ∀ (x : σ) (H : Heap) (locs : List Loc), I x → P x H → va_S A H0 H locs → (∀ (y : σ) (H1 : Heap) (locs1 : List Loc), I y → P y H1 → va_S A H0 H1 locs1 → μ y < μ x → ∀ ls : Array Slot, lv_has ls nL (lv y) → W p l e R s m args below meth c H1 locs1 cells slots Q (F0 m pc ls st)) → ∀ ls : Array Slot, lv_has ls nL (lv x) → W p l e R s m args below meth c H locs cells slots Q (F0 m pc ls st)) (x : σ) {H : Heap} {locs : List Loc} (h : I x) (hP : P x H) (hS : va_S A H0 H locs) {ls : Array Slot} (hl : lv_has ls nL (lv x)) : W p l e R s m args below meth c H locs cells slots Q (F0 m pc ls st) := by
  have key : ∀ (n : Nat) (x : σ) (H : Heap) (locs : List Loc), μ x < n → I x → P x H → va_S A H0 H locs → ∀ ls : Array Slot, lv_has ls nL (lv x) → W p l e R s m args below meth c H locs cells slots Q (F0 m pc ls st) := by
    intro n
    induction n with
    | zero => intro x H locs hx; exact absurd hx (Nat.not_lt_zero _)
    | succ n ih => intro x H locs hx hI hP hS ls hl; exact step x H locs hI hP hS (fun y H1 locs1 hy hP1 hS1 hm ls2 hl2 => ih y H1 locs1 (by omega) hy hP1 hS1 ls2 hl2) ls hl
  exact key (μ x + 1) x H locs (by omega) h hP hS ls hl
/-- a loop that writes cells and makes some: how many so far stands in its numbers -/
theorem z_loopN {σ : Type} {A : Nat → Prop} {H0 : Heap} (lv : σ → List (Nat × Value)) (I : σ → Prop) (P : σ → Heap → Prop) (μ nc ns : σ → Nat) (step : ∀ (x : σ) (H : Heap) (locs : List Loc), I x → P x H → va_S A H0 H locs → (∀ (y : σ) (H1 : Heap) (locs1 : List Loc), I y → P y H1 → va_S A H0 H1 locs1 → μ y < μ x → ∀ ls : Array Slot, lv_has ls nL (lv y) → W p l e R s m args below meth c H1 locs1 (nc y) (ns y) Q (F0 m pc ls st)) → ∀ ls : Array Slot, lv_has ls nL (lv x) → W p l e R s m args below meth c H locs (nc x) (ns x) Q (F0 m pc ls st)) (x : σ) {H : Heap} {locs : List Loc} (h : I x) (hP : P x H) (hS : va_S A H0 H locs) {ls : Array Slot} (hl : lv_has ls nL (lv x)) : W p l e R s m args below meth c H locs (nc x) (ns x) Q (F0 m pc ls st) := by
  have key : ∀ (n : Nat) (x : σ) (H : Heap) (locs : List Loc), μ x < n → I x → P x H → va_S A H0 H locs → ∀ ls : Array Slot, lv_has ls nL (lv x) → W p l e R s m args below meth c H locs (nc x) (ns x) Q (F0 m pc ls st) := by
    intro n
    induction n with
    | zero => intro x H locs hx; exact absurd hx (Nat.not_lt_zero _)
    | succ n ih => intro x H locs hx hI hP hS ls hl; exact step x H locs hI hP hS (fun y H1 locs1 hy hP1 hS1 hm ls2 hl2 => ih y H1 locs1 (by omega) hy hP1 hS1 ls2 hl2) ls hl
  exact key (μ x + 1) x H locs (by omega) h hP hS ls hl
end ZL

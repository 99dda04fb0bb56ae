/-! the classes and array classes that the worlds name; CountcoteModel's world: its object and its eight arrays -/
abbrev clz : List vw_C := [(RX3, TX3, 9), (RX1, TX1, 4), (RX2, TX2, 8), (RX4, TX4, 2), (RX7, TX7, 2), (RX5, TX5, 2), (RX6, TX6, 2), (RJ2, TJ2, 3)]
abbrev tys (kc : Nat → ClassId) : List (ClassId × FieldType) := [(kc 0, .int), (kc 1, .long), (kc 2, .double), (kc 3, .array .int), (kc 4, .array (.array .int)), (kc 5, .object "java/lang/Object"), (kc 6, .object "Countcote$Hash"), (kc 7, .object "Countcote$Stream")]
abbrev mL : Nat → Prop := fun r => r < 9
def mct (a : Nat → Nat) (kc : Nat → ClassId) (th : Int) (cn tt ce co it we tk fv : Int → Int) : Nat → va_E := fun r => match r with
  | 0 => .inr (0, [.int (iI th), .ref (a 1), .ref (a 2), .ref (a 3), .ref (a 4), .ref (a 5), .ref (a 6), .ref (a 7), .ref (a 8)])
  | 1 => eI (kc 0) 256 cn
  | 2 => eI (kc 0) 4 tt
  | 3 => eI (kc 0) 288 ce
  | 4 => eI (kc 0) 4 co
  | 5 => eI (kc 0) 32 it
  | 6 => eI (kc 0) 32 we
  | 7 => eI (kc 0) 4 tk
  | 8 => eL (kc 1) 5 fv
  | _ => .inr (0, [])
section MC
variable (a : Nat → Nat) (kc : Nat → ClassId) (th : Int) (cn tt ce co it we tk fv : Int → Int)
theorem mct_0 (x : Int) : rup (mct a kc th cn tt ce co it we tk fv) 0 (.inr (0, ([.int (iI th), .ref (a 1), .ref (a 2), .ref (a 3), .ref (a 4), .ref (a 5), .ref (a 6), .ref (a 7), .ref (a 8)] : List Value).set 0 (.int (iI x)))) = mct a kc x cn tt ce co it we tk fv := by
  funext r
  match r with
  | 0 | 1 | 2 | 3 | 4 | 5 | 6 | 7 | 8 => rfl
  | n + 9 => rw [rup_n _ _ (by omega)]; rfl
theorem mct_1 (x : Int → Int) : rup (mct a kc th cn tt ce co it we tk fv) 1 (eI (kc 0) 256 x) = mct a kc th x tt ce co it we tk fv := by
  funext r
  match r with
  | 0 | 1 | 2 | 3 | 4 | 5 | 6 | 7 | 8 => rfl
  | n + 9 => rw [rup_n _ _ (by omega)]; rfl
theorem mct_2 (x : Int → Int) : rup (mct a kc th cn tt ce co it we tk fv) 2 (eI (kc 0) 4 x) = mct a kc th cn x ce co it we tk fv := by
  funext r
  match r with
  | 0 | 1 | 2 | 3 | 4 | 5 | 6 | 7 | 8 => rfl
  | n + 9 => rw [rup_n _ _ (by omega)]; rfl
theorem mct_3 (x : Int → Int) : rup (mct a kc th cn tt ce co it we tk fv) 3 (eI (kc 0) 288 x) = mct a kc th cn tt x co it we tk fv := by
  funext r
  match r with
  | 0 | 1 | 2 | 3 | 4 | 5 | 6 | 7 | 8 => rfl
  | n + 9 => rw [rup_n _ _ (by omega)]; rfl
theorem mct_4 (x : Int → Int) : rup (mct a kc th cn tt ce co it we tk fv) 4 (eI (kc 0) 4 x) = mct a kc th cn tt ce x it we tk fv := by
  funext r
  match r with
  | 0 | 1 | 2 | 3 | 4 | 5 | 6 | 7 | 8 => rfl
  | n + 9 => rw [rup_n _ _ (by omega)]; rfl
theorem mct_5 (x : Int → Int) : rup (mct a kc th cn tt ce co it we tk fv) 5 (eI (kc 0) 32 x) = mct a kc th cn tt ce co x we tk fv := by
  funext r
  match r with
  | 0 | 1 | 2 | 3 | 4 | 5 | 6 | 7 | 8 => rfl
  | n + 9 => rw [rup_n _ _ (by omega)]; rfl
theorem mct_6 (x : Int → Int) : rup (mct a kc th cn tt ce co it we tk fv) 6 (eI (kc 0) 32 x) = mct a kc th cn tt ce co it x tk fv := by
  funext r
  match r with
  | 0 | 1 | 2 | 3 | 4 | 5 | 6 | 7 | 8 => rfl
  | n + 9 => rw [rup_n _ _ (by omega)]; rfl
theorem mct_7 (x : Int → Int) : rup (mct a kc th cn tt ce co it we tk fv) 7 (eI (kc 0) 4 x) = mct a kc th cn tt ce co it we x fv := by
  funext r
  match r with
  | 0 | 1 | 2 | 3 | 4 | 5 | 6 | 7 | 8 => rfl
  | n + 9 => rw [rup_n _ _ (by omega)]; rfl
theorem mct_8 (x : Int → Int) : rup (mct a kc th cn tt ce co it we tk fv) 8 (eL (kc 1) 5 x) = mct a kc th cn tt ce co it we tk x := by
  funext r
  match r with
  | 0 | 1 | 2 | 3 | 4 | 5 | 6 | 7 | 8 => rfl
  | n + 9 => rw [rup_n _ _ (by omega)]; rfl
end MC
def mR (D : va_G) (a : Nat → Nat) (kc : Nat → ClassId) (th : Int) (cn tt ce co it we tk fv : Int → Int) : State → Prop := fun U => RW D clz mL a (mct a kc th cn tt ce co it we tk fv) U.heap ∧ va_K D clz (tys kc) U
def mW (D : va_G) (a : Nat → Nat) (kc : Nat → ClassId) (th : Int) (cn tt ce co it we tk fv : Int → Int) (sz : Nat) : State → Prop := fun U => U.heap.size = sz ∧ RW D clz mL a (mct a kc th cn tt ce co it we tk fv) U.heap ∧ va_K D clz (tys kc) U ∧ RJ (fun _ => True) mL a
section MP
variable {D : va_G} {a : Nat → Nat} {kc : Nat → ClassId} {th : Int} {cn tt ce co it we tk fv : Int → Int} {av : List Value} {s : State} {H : Heap}
theorem mR_blind : FrameBlind (va_Pc av (mR D a kc th cn tt ce co it we tk fv)) := fun x U g mk q => ⟨q.1, q.2.1, va_K.moved (u := U) (U := U.calling g mk x) (Vm.Alike.refl U.vm) q.2.2⟩
theorem mW_blind {sz : Nat} : FrameBlind (va_Pc av (mW D a kc th cn tt ce co it we tk fv sz)) := fun x U g mk q => ⟨q.1, q.2.1, q.2.2.1, va_K.moved (u := U) (U := U.calling g mk x) (Vm.Alike.refl U.vm) q.2.2.2.1, q.2.2.2.2⟩
theorem mR_pre (hW : RW D clz mL a (mct a kc th cn tt ce co it we tk fv) H) (hK : va_K D clz (tys kc) s) : ∀ U : State, U.heap = H → s.WarmedH U.vm → va_Pc av (mR D a kc th cn tt ce co it we tk fv) av.toArray U := fun U hU h => ⟨rfl, by rw [hU]; exact hW, va_K.moved h.alike hK⟩
theorem mW_pre (hW : RW D clz mL a (mct a kc th cn tt ce co it we tk fv) H) (hK : va_K D clz (tys kc) s) (hJ : RJ (fun _ => True) mL a) : ∀ U : State, U.heap = H → s.WarmedH U.vm → va_Pc av (mW D a kc th cn tt ce co it we tk fv H.size) av.toArray U := fun U hU h => ⟨rfl, by rw [hU], by rw [hU]; exact hW, va_K.moved h.alike hK, hJ⟩
theorem w_recv {ρ : Type} {L : ρ → Prop} {ad : ρ → Nat} {ct : ρ → va_E} {cl : List vw_C} {tys : List (ClassId × FieldType)} (hK : va_K D cl tys s) (hW : RW D cl L ad ct H) (r : ρ) (hL : L r) {ci : Nat} {fs : List Value} {q : vw_C} (hct : ct r = .inr (ci, fs)) (hc : cl[ci]? = some q) : ∃ cell : Cell, H[ad r]? = some cell ∧ cell.vm.isStatics = false ∧ s.vm.findClass q.1 = some cell.cls :=
  va_recv hK (va_P1 (hW.at r hL hct)) (q0 := 0) hc rfl
end MP
theorem zb_t {p : Prop} [Decidable p] (h : p) : 1 = zb p := by simp [zb, h]
theorem zb_f {p : Prop} [Decidable p] (h : ¬ p) : 0 = zb p := by simp [zb, h]
theorem zb_01 (p : Prop) [Decidable p] : zb p = 0 ∨ zb p = 1 := by
  unfold zb
  split
  · exact Or.inr rfl
  · exact Or.inl rfl
theorem zb_eq {p q : Prop} [Decidable p] [Decidable q] (h : p ↔ q) : zb p = zb q := by simp [zb, h]
theorem zb_0 {p : Prop} [Decidable p] (h : zb p = 0) : ¬ p := fun q => by simp [zb, q] at h
theorem zb_1 {p : Prop} [Decidable p] (h : ¬ zb p = 0) : p := Classical.byContradiction fun q => h (by simp [zb, q])
theorem zb_r (p : Prop) [Decidable p] : -2147483648 ≤ zb p ∧ zb p ≤ 2147483647 := by
  rcases zb_01 p with h | h <;> rw [h] <;> decide
section MZ
variable {p : Program} {l : Launch} {e : Env} {R : Room} {s : State} {m : MethodId} {args : Array Value} {below : List Frame} {meth : Method} {c : Code} {H : Heap} {locs : List Loc} {cells slots : Nat}
variable {pc : Nat} {ls : Array Slot} {D : va_G} {cl : List vw_C} {A : Nat → Prop}
theorem z_retW {ρ : Type} {L : ρ → Prop} {ad : ρ → Nat} {ct : ρ → va_E} {cc : ByteArray} {w v : Int} (hexec : p.tables.exec = Jvm.exec) (hb : c.code = cc) (hr : meth.sig.returnType = some .int) (hlocks : meth.locks = false) (hW : RW D cl L ad ct H) (hS : va_S A s.heap H locs) (h : v = w) (hdg : decode cc pc = .ok (.ireturn, 1)) : W p l e R s m args below meth c H locs cells slots (MQ below (va_Qi (fun (r : Int32) (_ : Unit) => r = iI w) (fun (_ : Unit) t => RW D cl L ad ct t.heap) A) args s cells slots A) (F0 m pc ls [.int (iI v)]) := by
  subst h
  exact W.iret hexec hb hr (fun t ht hW9 => ⟨⟨_, (), rfl, rfl, show RW D cl L ad ct t.heap from by rw [ht]; exact hW⟩, hS.F ht⟩) hS.2.2 hdg hlocks
theorem z_retWB {ρ : Type} {L : ρ → Prop} {ad : ρ → Nat} {ct : ρ → va_E} {cc : ByteArray} {w v : Int} (hexec : p.tables.exec = Jvm.exec) (hb : c.code = cc) (hr : meth.sig.returnType = some .boolean) (hlocks : meth.locks = false) (hW : RW D cl L ad ct H) (hS : va_S A s.heap H locs) (h : v = w) (h01 : v = 0 ∨ v = 1) (hdg : decode cc pc = .ok (.ireturn, 1)) : W p l e R s m args below meth c H locs cells slots (MQ below (va_Qi (fun (r : Int32) (_ : Unit) => r = iI w) (fun (_ : Unit) t => RW D cl L ad ct t.heap) A) args s cells slots A) (F0 m pc ls [.int (iI v)]) := by
  subst h
  exact W.zret hexec hb hr (z_narB h01) (fun t ht hW9 => ⟨⟨_, (), rfl, rfl, show RW D cl L ad ct t.heap from by rw [ht]; exact hW⟩, hS.F ht⟩) hS.2.2 hdg hlocks
theorem z_retWl {ρ : Type} {L : ρ → Prop} {ad : ρ → Nat} {ct : ρ → va_E} {cc : ByteArray} {w v : Int} (hexec : p.tables.exec = Jvm.exec) (hb : c.code = cc) (hr : meth.sig.returnType = some .long) (hlocks : meth.locks = false) (hW : RW D cl L ad ct H) (hS : va_S A s.heap H locs) (h : v = w) (hdg : decode cc pc = .ok (.lreturn, 1)) : W p l e R s m args below meth c H locs cells slots (MQ below (va_Ql (fun (r : Int64) (_ : Unit) => r = lI w) (fun (_ : Unit) t => RW D cl L ad ct t.heap) A) args s cells slots A) (F0 m pc ls [.long (lI v)]) := by
  subst h
  exact W.lret hexec hb hr (fun t ht hW9 => ⟨⟨_, (), rfl, rfl, show RW D cl L ad ct t.heap from by rw [ht]; exact hW⟩, hS.F ht⟩) hS.2.2 hdg hlocks
theorem z_retWd {ρ : Type} {L : ρ → Prop} {ad : ρ → Nat} {ct : ρ → va_E} {cc : ByteArray} {w v : UInt64} (hexec : p.tables.exec = Jvm.exec) (hb : c.code = cc) (hr : meth.sig.returnType = some .double) (hlocks : meth.locks = false) (hW : RW D cl L ad ct H) (hS : va_S A s.heap H locs) (h : v = w) (hdg : decode cc pc = .ok (.dreturn, 1)) : W p l e R s m args below meth c H locs cells slots (MQ below (va_Qd (fun (r : UInt64) (_ : Unit) => r = w) (fun (_ : Unit) t => RW D cl L ad ct t.heap) A) args s cells slots A) (F0 m pc ls [.double v]) := by
  subst h
  exact W.dret hexec hb hr (fun t ht hW9 => ⟨⟨_, (), rfl, rfl, show RW D cl L ad ct t.heap from by rw [ht]; exact hW⟩, hS.F ht⟩) hS.2.2 hdg hlocks
theorem z_retWv {ρ : Type} {L : ρ → Prop} {ad : ρ → Nat} {ct : ρ → va_E} {cc : ByteArray} (hexec : p.tables.exec = Jvm.exec) (hb : c.code = cc) (hr : meth.sig.returnType = none) (hlocks : meth.locks = false) (hW : RW D cl L ad ct H) (hS : va_S A s.heap H locs) (hdg : decode cc pc = .ok (.return_, 1)) : W p l e R s m args below meth c H locs cells slots (MQ below (va_Qv (fun (_ : Unit) => True) (fun (_ : Unit) t => RW D cl L ad ct t.heap) A) args s cells slots A) (F0 m pc ls []) :=
  W.vret hexec hb hr (fun t ht hW9 => ⟨⟨(), rfl, trivial, show RW D cl L ad ct t.heap from by rw [ht]; exact hW⟩, hS.F ht⟩) hS.2.2 hdg hlocks
end MZ

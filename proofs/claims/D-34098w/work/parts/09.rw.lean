/-! worlds by roles: the cells of the roles r with L r, at the addresses ad r, with the contents ct r -/
def rup {ρ α : Type} [DecidableEq ρ] (f : ρ → α) (k : ρ) (v : α) : ρ → α := fun j => if j = k then v else f j
theorem rup_s {ρ α : Type} [DecidableEq ρ] (f : ρ → α) (k : ρ) (v : α) : rup f k v k = v := by simp [rup]
theorem rup_n {ρ α : Type} [DecidableEq ρ] (f : ρ → α) {k j : ρ} (v : α) (h : j ≠ k) : rup f k v j = f j := by simp [rup, h]
def RW {ρ : Type} (D : va_G) (cl : List vw_C) (L : ρ → Prop) (ad : ρ → Nat) (ct : ρ → va_E) (H : Heap) : Prop := ∀ r : ρ, L r → va_at D cl (ad r, ct r) H
def RJ {ρ : Type} (A : Nat → Prop) (L : ρ → Prop) (ad : ρ → Nat) : Prop := (∀ r r' : ρ, L r → L r' → ad r = ad r' → r = r') ∧ ∀ r : ρ, L r → A (ad r)
def RA {ρ : Type} (L : ρ → Prop) (ad : ρ → Nat) (sz : Nat) : Nat → Prop := fun q => (∃ r : ρ, L r ∧ ad r = q) ∨ sz ≤ q
theorem RW.put {ρ : Type} [DecidableEq ρ] {D : va_G} {cl : List vw_C} {A : Nat → Prop} {L : ρ → Prop} {ad : ρ → Nat} {ct : ρ → va_E} {H H1 : Heap} (h : RW D cl L ad ct H) (hJ : RJ A L ad) {r : ρ} (hL : L r) {e : va_E} (he : va_at D cl (ad r, e) H1) (oq : ∀ q : Nat, q ≠ ad r → H1[q]? = H[q]?) : RW D cl L ad (rup ct r e) H1 := by
  intro r' hr'
  by_cases h1 : r' = r
  · subst h1
    rw [rup_s]
    exact he
  · rw [rup_n _ _ h1]
    exact (h r' hr').kept (oq _ (fun q => h1 (hJ.1 _ _ hr' hL q)))
theorem RW.kept {ρ : Type} {D : va_G} {cl : List vw_C} {L : ρ → Prop} {ad : ρ → Nat} {ct : ρ → va_E} {H H1 : Heap} (h : RW D cl L ad ct H) (hq : ∀ r : ρ, L r → H1[ad r]? = H[ad r]?) : RW D cl L ad ct H1 := fun r hr => (h r hr).kept (hq r hr)
theorem RW.lt {ρ : Type} {D : va_G} {cl : List vw_C} {L : ρ → Prop} {ad : ρ → Nat} {ct : ρ → va_E} {H : Heap} (h : RW D cl L ad ct H) {r : ρ} (hr : L r) : ad r < H.size := (h r hr).lt
theorem RW.at {ρ : Type} {D : va_G} {cl : List vw_C} {L : ρ → Prop} {ad : ρ → Nat} {ct : ρ → va_E} {H : Heap} (h : RW D cl L ad ct H) (r : ρ) (hr : L r) {e : va_E} (he : ct r = e) : va_at D cl (ad r, e) H := by
  have h1 := h r hr
  rw [he] at h1
  exact h1
theorem RJ.self {ρ : Type} {A : Nat → Prop} {L : ρ → Prop} {ad : ρ → Nat} {sz : Nat} (h : RJ A L ad) : RJ (RA L ad sz) L ad := ⟨h.1, fun r hr => Or.inl ⟨r, hr, rfl⟩⟩
theorem RA.mono {ρ : Type} {L : ρ → Prop} {ad : ρ → Nat} {a b : Nat} (h : a ≤ b) : ∀ q, RA L ad b q → RA L ad a q := fun _ hq => hq.elim Or.inl (fun z => Or.inr (Nat.le_trans h z))
theorem RJ.any {ρ : Type} {A : Nat → Prop} {L : ρ → Prop} {ad : ρ → Nat} (h : RJ A L ad) : RJ (fun _ => True) L ad := ⟨h.1, fun _ _ => trivial⟩
section WR
variable {p : Program} {l : Launch} {e : Env} {R : Room} {s : State} {m : MethodId} {args : Array Value} {below : List Frame} {meth : Method} {c : Code} {H : Heap} {locs : List Loc} {cells slots : Nat} {Q : State → Prop}
variable {cc : ByteArray} {pc : Nat} {ls : Array Slot} {rest : List Value} {D : va_G} {cl : List vw_C} {A : Nat → Prop} {tys : List (ClassId × FieldType)} {H0 : Heap}
theorem w_getf {ρ : Type} {L : ρ → Prop} {ad : ρ → Nat} {ct : ρ → va_E} (hexec : p.tables.exec = Jvm.exec) (hb : c.code = cc) {own ref C : String} {T : u_T} {N ci index : Nat} {Ts : List Cond} (hts : ∀ w ∈ Ts, w.before args s = true) (hin : ∀ w ∈ u_ws C T N, w ∈ Ts) (hown : s.vm.findClass own = some m.cls) (hK : va_K D cl tys s) (hW : RW D cl L ad ct H) (r : ρ) (hL : L r) {fs : List Value} (hct : ct r = .inr (ci, fs)) (hc : cl[ci]? = some (C, T, N)) (k : Nat) (hk : k < N) (hlink : (Cond.fieldLink own index ref (T k).2.1 (T k).2.2.1).before args s = true) (hsame : ∀ x, s.fieldFound? (T k).1 (T k).2.1 (T k).2.2.1 = some x → s.fieldFound? ref (T k).2.1 (T k).2.2.1 = some x) {v : Value} (hv : fs[k]? = some v) (hdg : decode cc pc = .ok (.getfield index, 3)) (kk : W p l e R s m args below meth c H locs cells slots Q (F0 m (pc + 3) ls (v :: rest))) : W p l e R s m args below meth c H locs cells slots Q (F0 m pc ls (.ref (ad r) :: rest)) :=
  va_get hexec hb hts hin hown hK (va_P1 (hW.at r hL hct)) 0 rfl hc k hk hlink hsame hv hdg kk
theorem w_putf {ρ : Type} [DecidableEq ρ] {L : ρ → Prop} {ad : ρ → Nat} {ct ct' : ρ → va_E} (hexec : p.tables.exec = Jvm.exec) (hb : c.code = cc) {own ref C : String} {T : u_T} {N ci index : Nat} {Ts : List Cond} (hts : ∀ w ∈ Ts, w.before args s = true) (hin : ∀ w ∈ u_ws C T N, w ∈ Ts) (ty0 : Nat → FieldType) (hty : ∀ k, k < N → parseFieldDescriptor (T k).2.2.1 = some (ty0 k)) (hnm : ∀ a, a < N → ∀ b, b < N → a ≠ b → (T a).2.1 ≠ (T b).2.1) (hown : s.vm.findClass own = some m.cls) (hK : va_K D cl tys s) (hW : RW D cl L ad ct H) (hJ : RJ A L ad) (hS0 : va_S A H0 H locs) (r : ρ) (hL : L r) {fs : List Value} (hct : ct r = .inr (ci, fs)) (hc : cl[ci]? = some (C, T, N)) (k : Nat) (hk : k < N) (hlink : (Cond.fieldLink own index ref (T k).2.1 (T k).2.2.1).before args s = true) (hsame : ∀ x, s.fieldFound? (T k).1 (T k).2.1 (T k).2.2.1 = some x → s.fieldFound? ref (T k).2.1 (T k).2.2.1 = some x) (hfin : (T k).2.2.2 = false) {ty : FieldType} {v : Value} (hd : parseFieldDescriptor (T k).2.2.1 = some ty) (hn : narrow ty v = v) (hfit : fits ty v = true) (hl : k < fs.length) (hup : rup ct r (.inr (ci, fs.set k v)) = ct')
    (hdg : decode cc pc = .ok (.putfield index, 3)) (kk : ∀ (H1 : Heap) (locs1 : List Loc), RW D cl L ad ct' H1 → va_S A H0 H1 locs1 → H1.size = H.size → W p l e R s m args below meth c H1 locs1 cells slots Q (F0 m (pc + 3) ls rest)) : W p l e R s m args below meth c H locs cells slots Q (F0 m pc ls (v :: .ref (ad r) :: rest)) := by
  have hap := va_apart (own := own) hts hin ty0 hty hnm hK hc
  obtain ⟨r9, h1, cell, q1, q2, q3, q4⟩ := hW.at r hL hct
  have hr : r9 = (C, T, N) := Option.some.inj (h1.symm.trans hc)
  subst hr
  obtain ⟨hS, hfc, kC, hkC, hkind⟩ := hK.1 ci _ hc
  obtain ⟨cf, kf, fi, f, hi, hsl⟩ := hS k hk
  have hlay := hts _ (hin _ (u_in_lay hk))
  unfold u_lay at hlay
  rw [if_neg (by rw [hfin]; decide)] at hlay
  have hst := (u_facts hfc hkC (u_lays hts hin hk) hi).1
  have h6 := u_store hfc hkC hkind hlay hi hd hn hfit
  refine W.putK hexec hb (f := f) ⟨hown, hlink, ⟨_, _, _, hsame _ hi⟩, hst⟩ (by rw [q2]; exact h6) q1 q3 (by rw [hsl]; exact k2_hasslot (q4 k hk)) rfl rfl hdg fun H' e1 e2 e3 => ?_
  rw [hsl] at e1 ⊢
  have h8 : va_at D cl (ad r, .inr (ci, fs.set k v)) H' := ⟨_, hc, t_OB.to (V := updV (vp_V fs) k v) ⟨_, e1, q2, q3, t_set q4 hap hk v⟩ (fun j _ => vp_updV_set hl v j)⟩
  have h9 := hW.put hJ hL h8 e3
  rw [hup] at h9
  exact kk H' _ h9 (hS0.put e2 e3 (hJ.2 r hL)) e2
theorem w_iald {ρ : Type} {L : ρ → Prop} {ad : ρ → Nat} {ct : ρ → va_E} (hexec : p.tables.exec = Jvm.exec) (hb : c.code = cc) (hK : va_K D cl tys s) (hW : RW D cl L ad ct H) (r : ρ) (t0 : Nat) (hL : L r) {cA : ClassId} {n : Nat} {g : Int → Int} (hct : ct r = eI cA n g) (ht : tys[t0]? = some (cA, .int)) {i : Int} (hi : 0 ≤ i ∧ i < n) (hN : n ≤ 1000000) (hdg : decode cc pc = .ok (.iaload, 1)) (kk : W p l e R s m args below meth c H locs cells slots Q (F0 m (pc + 1) ls (.int (iI (g i)) :: rest))) : W p l e R s m args below meth c H locs cells slots Q (F0 m pc ls (.int (iI i) :: .ref (ad r) :: rest)) := by
  obtain ⟨F, hF⟩ : ∃ F : Nat → Int32, F = fun j : Nat => iI (g (j : Int)) := ⟨_, rfl⟩
  have h9 := hW.at r hL hct
  unfold eI at h9
  rw [← hF] at h9
  refine va_iald hexec hb hK (va_P1 h9) 0 t0 rfl ht (iI_in hi.1 hi.2 hN) hdg ?_
  have e1 : F (iI i).toNatClampNeg = iI (g i) := by
    rw [hF, iI_clamp hi.1 (by omega)]
    show iI (g ((i.toNat : Nat) : Int)) = iI (g i)
    rw [show ((i.toNat : Nat) : Int) = i by omega]
  rw [e1]
  exact kk
theorem w_lald {ρ : Type} {L : ρ → Prop} {ad : ρ → Nat} {ct : ρ → va_E} (hexec : p.tables.exec = Jvm.exec) (hb : c.code = cc) (hK : va_K D cl tys s) (hW : RW D cl L ad ct H) (r : ρ) (t0 : Nat) (hL : L r) {cA : ClassId} {n : Nat} {g : Int → Int} (hct : ct r = eL cA n g) (ht : tys[t0]? = some (cA, .long)) {i : Int} (hi : 0 ≤ i ∧ i < n) (hN : n ≤ 1000000) (hdg : decode cc pc = .ok (.laload, 1)) (kk : W p l e R s m args below meth c H locs cells slots Q (F0 m (pc + 1) ls (.long (lI (g i)) :: rest))) : W p l e R s m args below meth c H locs cells slots Q (F0 m pc ls (.int (iI i) :: .ref (ad r) :: rest)) := by
  obtain ⟨F, hF⟩ : ∃ F : Nat → Int64, F = fun j : Nat => lI (g (j : Int)) := ⟨_, rfl⟩
  have h9 := hW.at r hL hct
  unfold eL at h9
  rw [← hF] at h9
  refine va_lald hexec hb hK (va_P1 h9) 0 t0 rfl ht (iI_in hi.1 hi.2 hN) hdg ?_
  have e1 : F (iI i).toNatClampNeg = lI (g i) := by
    rw [hF, iI_clamp hi.1 (by omega)]
    show lI (g ((i.toNat : Nat) : Int)) = lI (g i)
    rw [show ((i.toNat : Nat) : Int) = i by omega]
  rw [e1]
  exact kk
theorem w_aald {ρ : Type} {L : ρ → Prop} {ad : ρ → Nat} {ct : ρ → va_E} (hexec : p.tables.exec = Jvm.exec) (hb : c.code = cc) (hK : va_K D cl tys s) (hW : RW D cl L ad ct H) (r : ρ) (t0 : Nat) (hL : L r) {cA : ClassId} {n : Nat} {g : Int → Option Nat} {ty : FieldType} (hct : ct r = eQ cA n g) (ht : tys[t0]? = some (cA, ty)) (hty : ty.isReference = true) {i : Int} (hi : 0 ≤ i ∧ i < n) (hN : n ≤ 1000000) {v : Value} (hv : va_rf (g i) = v) (hdg : decode cc pc = .ok (.aaload, 1)) (kk : W p l e R s m args below meth c H locs cells slots Q (F0 m (pc + 1) ls (v :: rest))) : W p l e R s m args below meth c H locs cells slots Q (F0 m pc ls (.int (iI i) :: .ref (ad r) :: rest)) := by
  have h9 := hW.at r hL hct
  have hlt : (iI i).toNatClampNeg < n := by rw [iI_clamp hi.1 (by omega)]; omega
  refine W.aald (v := v) (ty := ty) hexec hb h9 ((hK.2 t0 _ ht).1 n (fun j => va_rf (g ((j : Nat) : Int)))) hty (fun q => by cases q) (by show ¬ (iI i < 0 ∨ (arrV _ _ _).slots.size ≤ _); rw [arrV_size]; exact iI_in hi.1 hi.2 hN) (by show (arrV _ _ _).slots[_]? = _; rw [arrV_read _ _ hlt, ← hv, iI_clamp hi.1 (by omega)]; show some (va_rf (g ((i.toNat : Nat) : Int))) = _; rw [show ((i.toNat : Nat) : Int) = i by omega]) rfl rfl hdg kk
theorem w_iast {ρ : Type} [DecidableEq ρ] {L : ρ → Prop} {ad : ρ → Nat} {ct ct' : ρ → va_E} (hexec : p.tables.exec = Jvm.exec) (hb : c.code = cc) (hK : va_K D cl tys s) (hW : RW D cl L ad ct H) (hJ : RJ A L ad) (hS : va_S A H0 H locs) (r : ρ) (t0 : Nat) (hL : L r) {cA : ClassId} {n : Nat} {g : Int → Int} (hct : ct r = eI cA n g) (ht : tys[t0]? = some (cA, .int)) {i x : Int} (hi : 0 ≤ i ∧ i < n) (hN : n ≤ 1000000) (hup : rup ct r (eI cA n (zu g i x)) = ct') (hdg : decode cc pc = .ok (.iastore, 1)) (kk : ∀ (H1 : Heap) (locs1 : List Loc), RW D cl L ad ct' H1 → va_S A H0 H1 locs1 → H1.size = H.size → W p l e R s m args below meth c H1 locs1 cells slots Q (F0 m (pc + 1) ls rest)) : W p l e R s m args below meth c H locs cells slots Q (F0 m pc ls (.int (iI x) :: .int (iI i) :: .ref (ad r) :: rest)) := by
  have h9 := hW.at r hL hct
  refine W.iast hexec hb h9 ((hK.2 t0 _ ht).1 n (fun j => .int (iI (g ((j : Nat) : Int))))) (fun q => by cases q) (by show ¬ (iI i < 0 ∨ (arrV _ _ _).slots.size ≤ _); rw [arrV_size]; exact iI_in hi.1 hi.2 hN) rfl rfl hdg fun H1 e1 z oq => ?_
  have h8 : va_at D cl (ad r, eI cA n (zu g i x)) H1 := by
    show H1[ad r]? = some (vp_cell _ _)
    rw [e1, ← zu_upd hi.1 (by omega)]
    rw [vp_cell_i, vp_cell_i, arrV_store]
    congr 2
    funext q
    by_cases hq : q = (iI i).toNatClampNeg
    · subst hq
      simp [updV, upd]
    · simp [updV, upd, hq]
  have h7 := hW.put hJ hL h8 oq
  rw [hup] at h7
  exact kk H1 _ h7 (hS.put z oq (hJ.2 r hL)) z
theorem w_last {ρ : Type} [DecidableEq ρ] {L : ρ → Prop} {ad : ρ → Nat} {ct ct' : ρ → va_E} (hexec : p.tables.exec = Jvm.exec) (hb : c.code = cc) (hK : va_K D cl tys s) (hW : RW D cl L ad ct H) (hJ : RJ A L ad) (hS : va_S A H0 H locs) (r : ρ) (t0 : Nat) (hL : L r) {cA : ClassId} {n : Nat} {g : Int → Int} (hct : ct r = eL cA n g) (ht : tys[t0]? = some (cA, .long)) {i x : Int} (hi : 0 ≤ i ∧ i < n) (hN : n ≤ 1000000) (hup : rup ct r (eL cA n (zu g i x)) = ct') (hdg : decode cc pc = .ok (.lastore, 1)) (kk : ∀ (H1 : Heap) (locs1 : List Loc), RW D cl L ad ct' H1 → va_S A H0 H1 locs1 → H1.size = H.size → W p l e R s m args below meth c H1 locs1 cells slots Q (F0 m (pc + 1) ls rest)) : W p l e R s m args below meth c H locs cells slots Q (F0 m pc ls (.long (lI x) :: .int (iI i) :: .ref (ad r) :: rest)) := by
  have h9 := hW.at r hL hct
  refine W.last hexec hb h9 ((hK.2 t0 _ ht).1 n (fun j => .long (lI (g ((j : Nat) : Int))))) (fun q => by cases q) (by show ¬ (iI i < 0 ∨ (arrV _ _ _).slots.size ≤ _); rw [arrV_size]; exact iI_in hi.1 hi.2 hN) rfl rfl hdg fun H1 e1 z oq => ?_
  have h8 : va_at D cl (ad r, eL cA n (zu g i x)) H1 := by
    show H1[ad r]? = some (vp_cell _ _)
    rw [e1, ← zu_updL hi.1 (by omega)]
    rw [vp_cell_l, vp_cell_l, arrV_store]
    congr 2
    funext q
    by_cases hq : q = (iI i).toNatClampNeg
    · subst hq
      simp [updV, vp_updL]
    · simp [updV, vp_updL, hq]
  have h7 := hW.put hJ hL h8 oq
  rw [hup] at h7
  exact kk H1 _ h7 (hS.put z oq (hJ.2 r hL)) z
theorem w_alen {ρ : Type} {L : ρ → Prop} {ad : ρ → Nat} {ct : ρ → va_E} (hexec : p.tables.exec = Jvm.exec) (hb : c.code = cc) (hK : va_K D cl tys s) (hW : RW D cl L ad ct H) (r : ρ) (t0 : Nat) (hL : L r) {cA : ClassId} {x : vp_A} (hct : ct r = .inl (cA, x)) {ty : FieldType} (ht : tys[t0]? = some (cA, ty)) (hdg : decode cc pc = .ok (.arraylength, 1)) (kk : W p l e R s m args below meth c H locs cells slots Q (F0 m (pc + 1) ls (.int (iI (x.1 : Int)) :: rest))) : W p l e R s m args below meth c H locs cells slots Q (F0 m pc ls (.ref (ad r) :: rest)) :=
  va_alen (v := iI (x.1 : Int)) hexec hb hK (va_P1 (hW.at r hL hct)) 0 t0 rfl ht Int32.ofInt_eq_ofNat.symm hdg kk
/-! ends of methods that change nothing -/
theorem z_retS {cc' : ByteArray} {w v : Int} (hexec : p.tables.exec = Jvm.exec) (hb : c.code = cc') (hr : meth.sig.returnType = some .int) (hlocks : meth.locks = false) (h : v = w) (hdg : decode cc' pc = .ok (.ireturn, 1)) : W p l e R s m args below meth c s.heap [] 0 0 (MQ below (vp_Si (fun r => r = iI w)) args s 0 0 (fun _ => False)) (F0 m pc ls [.int (iI v)]) := by
  subst h
  exact W.iret hexec hb hr (fun t ht hW => ⟨_, rfl, rfl, ht⟩) (fun q hq => by cases hq) hdg hlocks
theorem z_narB {v : Int} (h : v = 0 ∨ v = 1) : narrow .boolean (.int (iI v)) = .int (iI v) := by
  rcases h with rfl | rfl <;> rfl
theorem z_retB {cc' : ByteArray} {w v : Int} (hexec : p.tables.exec = Jvm.exec) (hb : c.code = cc') (hr : meth.sig.returnType = some .boolean) (hlocks : meth.locks = false) (h : v = w) (h01 : v = 0 ∨ v = 1) (hdg : decode cc' pc = .ok (.ireturn, 1)) : W p l e R s m args below meth c s.heap [] 0 0 (MQ below (vp_Si (fun r => r = iI w)) args s 0 0 (fun _ => False)) (F0 m pc ls [.int (iI v)]) := by
  subst h
  exact W.zret hexec hb hr (z_narB h01) (fun t ht hW => ⟨_, rfl, rfl, ht⟩) (fun q hq => by cases hq) hdg hlocks
theorem z_retSl {cc' : ByteArray} {w v : Int} (hexec : p.tables.exec = Jvm.exec) (hb : c.code = cc') (hr : meth.sig.returnType = some .long) (hlocks : meth.locks = false) (h : v = w) (hdg : decode cc' pc = .ok (.lreturn, 1)) : W p l e R s m args below meth c s.heap [] 0 0 (MQ below (vp_Sl (fun r => r = lI w)) args s 0 0 (fun _ => False)) (F0 m pc ls [.long (lI v)]) := by
  subst h
  exact W.lret hexec hb hr (fun t ht hW => ⟨_, rfl, rfl, ht⟩) (fun q hq => by cases hq) hdg hlocks
theorem z_cs {w : Int} {a : Array Value} {st0 : List Value} (hr : CallRun p l e R s m args below meth c H locs cells slots 0 0 (F0 m pc ls st0) rest (vp_Si (fun r => r = iI w) a) (fun _ => False)) (kk : W p l e R s m args below meth c H locs cells slots Q (F0 m (pc + 3) ls (.int (iI w) :: rest))) : W p l e R s m args below meth c H locs cells slots Q (F0 m pc ls st0) :=
  vp_callSi hr (fun r h => by subst h; exact kk)
theorem z_csl {w : Int} {a : Array Value} {st0 : List Value} (hr : CallRun p l e R s m args below meth c H locs cells slots 0 0 (F0 m pc ls st0) rest (vp_Sl (fun r => r = lI w) a) (fun _ => False)) (kk : W p l e R s m args below meth c H locs cells slots Q (F0 m (pc + 3) ls (.long (lI w) :: rest))) : W p l e R s m args below meth c H locs cells slots Q (F0 m pc ls st0) :=
  vp_callSl hr (fun r h => by subst h; exact kk)
end WR

/-! CountcoteModel, fourth part: what is asked of it. cd..: the places of the exceptions -/
def cdS (st : Int) : Int := if 0 ≤ st ∧ st < 4 then 0 else 1
def cdI (st i : Int) : Int := if (0 ≤ st ∧ st < 4) ∧ (0 ≤ i ∧ i < 64) then 0 else 1
def cd2 (st ot : Int) : Int := if (0 ≤ st ∧ st < 4) ∧ (0 ≤ ot ∧ ot < 4) then 0 else 1
def cdR (b f t : Int) : Int := if ¬ b = 0 ∧ (0 ≤ f ∧ f < 64) ∧ (0 ≤ t ∧ t < 64) then (if t < f then 2 else 0) else 1
def cdL (st least : Int) : Int := if 0 ≤ st ∧ st < 4 then (if 1 ≤ least ∧ least ≤ 1000000 then 0 else 2) else 1
def cdC (row h : Int) : Int := if (0 ≤ row ∧ row < 3) ∧ (0 ≤ h ∧ h < 64) then 0 else 1
def cdX (row i : Int) : Int := if (0 ≤ row ∧ row < 5) ∧ (0 ≤ i ∧ i < 64) then 0 else 1
def cdCell (st lev row col : Int) : Int := if (0 ≤ st ∧ st < 4) ∧ (0 ≤ lev ∧ lev < 3) ∧ (0 ≤ row ∧ row < 3) ∧ (0 ≤ col ∧ col < 8) then 0 else 1
def cdE (st lev h : Int) : Int := if (0 ≤ st ∧ st < 4) ∧ (0 ≤ lev ∧ lev < 7) ∧ (0 ≤ h ∧ h < 64 / 2 ^ lev.toNat) then 0 else 1
def cdSC (st row col : Int) : Int := if (0 ≤ st ∧ st < 4) ∧ (0 ≤ row ∧ row < 5) ∧ (0 ≤ col ∧ col < 8) then 0 else 1
def cdRk (st rank tot : Int) : Int := if 0 ≤ st ∧ st < 4 then (if rank < 1 ∨ tot < rank then 2 else 0) else 1
def cdCI (st place n : Int) : Int := if (0 ≤ st ∧ st < 4) ∧ 0 ≤ place ∧ place < n then 0 else 1
def cdFA (c fd : Int) : Int := if c = 0 then (if fd = -1 then 3 else 0) else c
def cdAdd (st i w tot : Int) : Int := if (0 ≤ st ∧ st < 4) ∧ (0 ≤ i ∧ i < 64) then (if w < 1 ∨ 1000 < w then 2 else if 1000000 < tot + w then 3 else 0) else 1
def cdMg (st ot ta tb : Int) : Int := if (0 ≤ st ∧ st < 4) ∧ (0 ≤ ot ∧ ot < 4) then (if st = ot then 2 else if 1000000 < ta + tb then 3 else 0) else 1
theorem cdI_0 {st i : Int} (h : cdI st i = 0) : (0 ≤ st ∧ st < 4) ∧ (0 ≤ i ∧ i < 64) := by
  unfold cdI at h
  split at h
  · assumption
  · omega
theorem cdR_0 {b f t : Int} (h : cdR b f t = 0) : ¬ b = 0 ∧ 0 ≤ f ∧ f ≤ t ∧ t < 64 := by
  unfold cdR at h
  repeat' split at h
  all_goals omega
theorem cdL_0 {st least : Int} (h : cdL st least = 0) : (0 ≤ st ∧ st < 4) ∧ 1 ≤ least ∧ least ≤ 1000000 := by
  unfold cdL at h
  repeat' split at h
  all_goals omega
theorem zcmp_s (x y : Int) : (zcmp x y = 1 ∧ y < x) ∨ (zcmp x y = 0 ∧ x = y) ∨ (zcmp x y = -1 ∧ x < y) := by
  unfold zcmp
  repeat' split
  all_goals omega
def zdot (g : Int → Int) (a b : Int) : Nat → Int
  | 0 => 0
  | n + 1 => zdot g a b n + g (a + n) * g (b + n)
theorem zdot_s {g : Int → Int} {a b k : Int} (h : 0 ≤ k) : zdot g a b (k + 1).toNat = zdot g a b k.toNat + g (a + k) * g (b + k) := by
  rw [show (k + 1).toNat = k.toNat + 1 by omega]
  show zdot g a b k.toNat + g (a + ((k.toNat : Nat) : Int)) * g (b + ((k.toNat : Nat) : Int)) = _
  rw [show ((k.toNat : Nat) : Int) = k by omega]
/-- the greatest level of a half that begins with an item and ends ahead of another one -/
def mLv (f t : Int) : Nat → Int
  | 0 => 0
  | n + 1 => if f % 2 ^ (n + 1) = 0 ∧ f + 2 ^ (n + 1) - 1 ≤ t then n + 1 else mLv f t n
theorem mLv_s {f t x : Int} (h : 1 ≤ x) : mLv f t x.toNat = if f % 2 ^ x.toNat = 0 ∧ f + 2 ^ x.toNat - 1 ≤ t then x else mLv f t (x + -1).toNat := by
  obtain ⟨n, rfl⟩ : ∃ n : Nat, x = (n : Int) + 1 := ⟨(x - 1).toNat, by omega⟩
  rw [show ((n : Int) + 1).toNat = n + 1 by omega, show ((n : Int) + 1 + -1).toNat = n by omega]
  rfl
theorem mLv_e {f t x : Int} (h : 0 ≤ x) (hc : f % 2 ^ x.toNat = 0 ∧ f + 2 ^ x.toNat - 1 ≤ t) : mLv f t x.toNat = x := by
  by_cases h1 : x = 0
  · subst h1; rfl
  · rw [mLv_s (by omega), if_pos hc]
theorem mLv_p {f t : Int} (h : 0 ≤ f ∧ f ≤ t) : ∀ n : Nat, 0 ≤ mLv f t n ∧ mLv f t n ≤ n ∧ f % 2 ^ (mLv f t n).toNat = 0 ∧ f + 2 ^ (mLv f t n).toNat - 1 ≤ t := by
  intro n
  induction n with
  | zero =>
    show (0 : Int) ≤ 0 ∧ (0 : Int) ≤ 0 ∧ f % 1 = 0 ∧ f + 1 - 1 ≤ t
    omega
  | succ n ih =>
    by_cases hc : f % 2 ^ (n + 1) = 0 ∧ f + 2 ^ (n + 1) - 1 ≤ t
    · have e : mLv f t (n + 1) = ((n : Int) + 1) := by simp only [mLv, if_pos hc]
      rw [e, show ((n : Int) + 1).toNat = n + 1 by omega]
      exact ⟨by omega, by omega, hc⟩
    · have e : mLv f t (n + 1) = mLv f t n := by simp only [mLv, if_neg hc]
      rw [e]
      exact ⟨ih.1, by omega, ih.2.2⟩
/-- how many halves a range is made of -/
def mPa (t : Int) : Nat → Int → Int
  | 0, _ => 0
  | n + 1, i => if i ≤ t then 1 + mPa t n (i + 2 ^ (mLv i t 6).toNat) else 0
theorem mPa_0 {t i : Int} (n : Nat) (h : ¬ i ≤ t) : mPa t n i = 0 := by
  cases n with
  | zero => rfl
  | succ n => simp only [mPa, if_neg h]
theorem mPa_s {t i : Int} {n : Nat} (h : i ≤ t) (hn : 1 ≤ n) : mPa t n i = 1 + mPa t (n - 1) (i + 2 ^ (mLv i t 6).toNat) := by
  obtain ⟨k, rfl⟩ : ∃ k, n = k + 1 := ⟨n - 1, by omega⟩
  simp only [mPa, if_pos h, Nat.add_sub_cancel]
/-- the sum of the estimates of the halves of a range -/
def mER (cn ce : Int → Int) (st t : Int) : Nat → Int → Int
  | 0, _ => 0
  | n + 1, i => if i ≤ t then mEst cn ce st (mLv i t 6) (i / 2 ^ (mLv i t 6).toNat) + mER cn ce st t n (i + 2 ^ (mLv i t 6).toNat) else 0
theorem mER_0 {cn ce : Int → Int} {st t i : Int} (n : Nat) (h : ¬ i ≤ t) : mER cn ce st t n i = 0 := by
  cases n with
  | zero => rfl
  | succ n => simp only [mER, if_neg h]
theorem mER_s {cn ce : Int → Int} {st t i : Int} {n : Nat} (h : i ≤ t) (hn : 1 ≤ n) : mER cn ce st t n i = mEst cn ce st (mLv i t 6) (i / 2 ^ (mLv i t 6).toNat) + mER cn ce st t (n - 1) (i + 2 ^ (mLv i t 6).toNat) := by
  obtain ⟨k, rfl⟩ : ∃ k, n = k + 1 := ⟨n - 1, by omega⟩
  simp only [mER, if_pos h, Nat.add_sub_cancel]
/-- an item and all its halves of the first n levels are frequent -/
def mFq (cn ce : Int → Int) (st item least : Int) : Nat → Bool
  | 0 => true
  | n + 1 => mFq cn ce st item least n && decide (least ≤ mEst cn ce st n (item / 2 ^ n))
theorem mFq_s {cn ce : Int → Int} {st item least k : Int} (h : 0 ≤ k) : mFq cn ce st item least (k + 1).toNat = (mFq cn ce st item least k.toNat && decide (least ≤ mEst cn ce st k (item / 2 ^ k.toNat))) := by
  rw [show (k + 1).toNat = k.toNat + 1 by omega]
  show (mFq cn ce st item least k.toNat && decide (least ≤ mEst cn ce st ((k.toNat : Nat) : Int) (item / 2 ^ k.toNat))) = _
  rw [show ((k.toNat : Nat) : Int) = k by omega]
theorem zb_and (X : Bool) (Q : Prop) [Decidable Q] : (if ¬ zb (X = true) = 0 ∧ Q then (1 : Int) else 0) = zb ((X && decide Q) = true) := by
  cases X <;> by_cases h : Q <;> simp [zb, h]
def mFr (cn ce : Int → Int) (st least : Int) : Nat → Int
  | 0 => 0
  | n + 1 => mFr cn ce st least n + zb (mFq cn ce st n least 7 = true)
theorem mFr_s {cn ce : Int → Int} {st least k : Int} (h : 0 ≤ k) : mFr cn ce st least (k + 1).toNat = mFr cn ce st least k.toNat + zb (mFq cn ce st k least 7 = true) := by
  rw [show (k + 1).toNat = k.toNat + 1 by omega]
  show mFr cn ce st least k.toNat + zb (mFq cn ce st ((k.toNat : Nat) : Int) least 7 = true) = _
  rw [show ((k.toNat : Nat) : Int) = k by omega]
/-- how many of the first items are frequent, and which one has the place -/
def mFA (cn ce : Int → Int) (st least place : Int) : Nat → Int × Int
  | 0 => (0, -1)
  | n + 1 => if mFq cn ce st n least 7 = true then ((mFA cn ce st least place n).1 + 1, if (mFA cn ce st least place n).1 = place then n else (mFA cn ce st least place n).2) else mFA cn ce st least place n
theorem mFA_s {cn ce : Int → Int} {st least place k : Int} (h : 0 ≤ k) : mFA cn ce st least place (k + 1).toNat = if mFq cn ce st k least 7 = true then ((mFA cn ce st least place k.toNat).1 + 1, if (mFA cn ce st least place k.toNat).1 = place then k else (mFA cn ce st least place k.toNat).2) else mFA cn ce st least place k.toNat := by
  rw [show (k + 1).toNat = k.toNat + 1 by omega]
  show (if mFq cn ce st ((k.toNat : Nat) : Int) least 7 = true then ((mFA cn ce st least place k.toNat).1 + 1, if (mFA cn ce st least place k.toNat).1 = place then ((k.toNat : Nat) : Int) else (mFA cn ce st least place k.toNat).2) else _) = _
  rw [show ((k.toNat : Nat) : Int) = k by omega]
/-- down the halves to the item of a rank: the half and what is left of the rank behind n steps -/
def mRk (cn ce : Int → Int) (st rank : Int) : Nat → Int × Int
  | 0 => (0, rank)
  | n + 1 => if (mRk cn ce st rank n).2 ≤ mEst cn ce st (5 - n) (2 * (mRk cn ce st rank n).1) then (2 * (mRk cn ce st rank n).1, (mRk cn ce st rank n).2) else (2 * (mRk cn ce st rank n).1 + 1, (mRk cn ce st rank n).2 - mEst cn ce st (5 - n) (2 * (mRk cn ce st rank n).1))
theorem mRk_s {cn ce : Int → Int} {st rank k : Int} (h : k ≤ 5) : mRk cn ce st rank (5 - (k + -1)).toNat = if (mRk cn ce st rank (5 - k).toNat).2 ≤ mEst cn ce st k (2 * (mRk cn ce st rank (5 - k).toNat).1) then (2 * (mRk cn ce st rank (5 - k).toNat).1, (mRk cn ce st rank (5 - k).toNat).2) else (2 * (mRk cn ce st rank (5 - k).toNat).1 + 1, (mRk cn ce st rank (5 - k).toNat).2 - mEst cn ce st k (2 * (mRk cn ce st rank (5 - k).toNat).1)) := by
  rw [show (5 - (k + -1)).toNat = (5 - k).toNat + 1 by omega]
  show (if (mRk cn ce st rank (5 - k).toNat).2 ≤ mEst cn ce st (5 - (((5 - k).toNat : Nat) : Int)) (2 * (mRk cn ce st rank (5 - k).toNat).1) then (2 * (mRk cn ce st rank (5 - k).toNat).1, (mRk cn ce st rank (5 - k).toNat).2) else (2 * (mRk cn ce st rank (5 - k).toNat).1 + 1, (mRk cn ce st rank (5 - k).toNat).2 - mEst cn ce st (5 - (((5 - k).toNat : Nat) : Int)) (2 * (mRk cn ce st rank (5 - k).toNat).1))) = _
  rw [show (5 - (((5 - k).toNat : Nat) : Int)) = k by omega]
/-- a cell of a signed sketch -/
def mSC (cn : Int → Int) (st row col : Int) : Nat → Int
  | 0 => 0
  | n + 1 => mSC cn st row col n + (if mSCol row n = col then mSgn row n * cn (64 * st + n) else 0)
theorem mSC_s {cn : Int → Int} {st row col k : Int} (h : 0 ≤ k) : mSC cn st row col (k + 1).toNat = mSC cn st row col k.toNat + (if mSCol row k = col then mSgn row k * cn (64 * st + k) else 0) := by
  rw [show (k + 1).toNat = k.toNat + 1 by omega]
  show mSC cn st row col k.toNat + (if mSCol row ((k.toNat : Nat) : Int) = col then mSgn row ((k.toNat : Nat) : Int) * cn (64 * st + ((k.toNat : Nat) : Int)) else 0) = _
  rw [show ((k.toNat : Nat) : Int) = k by omega]
theorem mSC_b {cn : Int → Int} (hcn : ∀ i, 0 ≤ cn i ∧ cn i ≤ 1000000) (st row col : Int) : ∀ n : Nat, -(1000000 * (n : Int)) ≤ mSC cn st row col n ∧ mSC cn st row col n ≤ 1000000 * (n : Int) := by
  intro n
  induction n with
  | zero => exact ⟨by simp [mSC], by simp [mSC]⟩
  | succ n ih =>
    have h1 := hcn (64 * st + n)
    simp only [mSC]
    split
    · rcases mSgn_b row n with h2 | h2 <;> rw [h2] <;> omega
    · omega
theorem mSC_i {cn : Int → Int} (hcn : ∀ i, 0 ≤ cn i ∧ cn i ≤ 1000000) (st row col : Int) : -64000000 ≤ mSC cn st row col 64 ∧ mSC cn st row col 64 ≤ 64000000 := by
  have := mSC_b hcn st row col 64
  omega
def mLs (fv : Int → Int) (x : Int) : Nat → Int
  | 0 => 0
  | n + 1 => mLs fv x n + (if fv n < x then 1 else 0)
def mGr (fv : Int → Int) (x : Int) : Nat → Int
  | 0 => 0
  | n + 1 => mGr fv x n + (if x < fv n then 1 else 0)
theorem mLs_s {fv : Int → Int} {x k : Int} (h : 0 ≤ k) : mLs fv x (k + 1).toNat = mLs fv x k.toNat + (if fv k < x then 1 else 0) := by
  rw [show (k + 1).toNat = k.toNat + 1 by omega]
  show mLs fv x k.toNat + (if fv ((k.toNat : Nat) : Int) < x then 1 else 0) = _
  rw [show ((k.toNat : Nat) : Int) = k by omega]
theorem mGr_s {fv : Int → Int} {x k : Int} (h : 0 ≤ k) : mGr fv x (k + 1).toNat = mGr fv x k.toNat + (if x < fv k then 1 else 0) := by
  rw [show (k + 1).toNat = k.toNat + 1 by omega]
  show mGr fv x k.toNat + (if x < fv ((k.toNat : Nat) : Int) then 1 else 0) = _
  rw [show ((k.toNat : Nat) : Int) = k by omega]
/-- the middle one of five numbers -/
def mMid (fv : Int → Int) : Nat → Int
  | 0 => 0
  | n + 1 => if mLs fv (fv n) 5 ≤ 2 ∧ mGr fv (fv n) 5 ≤ 2 then fv n else mMid fv n
theorem mMid_s {fv : Int → Int} {k : Int} (h : 0 ≤ k) : mMid fv (k + 1).toNat = if mLs fv (fv k) 5 ≤ 2 ∧ mGr fv (fv k) 5 ≤ 2 then fv k else mMid fv k.toNat := by
  rw [show (k + 1).toNat = k.toNat + 1 by omega]
  show (if mLs fv (fv ((k.toNat : Nat) : Int)) 5 ≤ 2 ∧ mGr fv (fv ((k.toNat : Nat) : Int)) 5 ≤ 2 then fv ((k.toNat : Nat) : Int) else _) = _
  rw [show ((k.toNat : Nat) : Int) = k by omega]
/-- the first places of an array written anew -/
def mSet (v g : Int → Int) : Nat → (Int → Int)
  | 0 => g
  | n + 1 => zu (mSet v g n) n (v n)
theorem mSet_s {v g : Int → Int} {k : Int} (h : 0 ≤ k) : mSet v g (k + 1).toNat = zu (mSet v g k.toNat) k (v k) := by
  rw [show (k + 1).toNat = k.toNat + 1 by omega]
  show zu (mSet v g k.toNat) ((k.toNat : Nat) : Int) (v ((k.toNat : Nat) : Int)) = _
  rw [show ((k.toNat : Nat) : Int) = k by omega]
theorem mSet_v {v g : Int → Int} : ∀ (n : Nat) (j : Int), 0 ≤ j → j < n → mSet v g n j = v j := by
  intro n
  induction n with
  | zero => intro j h1 h2; omega
  | succ n ih =>
    intro j h1 h2
    show zu (mSet v g n) n (v n) j = v j
    by_cases h : j = n
    · rw [h, zu_s]
    · rw [zu_n h]; exact ih j h1 (by omega)
theorem zu_zu {g : Int → Int} {k x y : Int} : zu (zu g k x) k y = zu g k y := by
  funext j
  unfold zu
  split <;> rfl
def mSP (cn : Int → Int) (st ot row : Int) : Nat → Int
  | 0 => 0
  | n + 1 => mSP cn st ot row n + mSC cn st row n 64 * mSC cn ot row n 64
theorem mSP_s {cn : Int → Int} {st ot row k : Int} (h : 0 ≤ k) : mSP cn st ot row (k + 1).toNat = mSP cn st ot row k.toNat + mSC cn st row k 64 * mSC cn ot row k 64 := by
  rw [show (k + 1).toNat = k.toNat + 1 by omega]
  show mSP cn st ot row k.toNat + mSC cn st row ((k.toNat : Nat) : Int) 64 * mSC cn ot row ((k.toNat : Nat) : Int) 64 = _
  rw [show ((k.toNat : Nat) : Int) = k by omega]
theorem mSP_b {cn : Int → Int} (hcn : ∀ i, 0 ≤ cn i ∧ cn i ≤ 1000000) (st ot row : Int) : ∀ n : Nat, -(4096000000000000 * (n : Int)) ≤ mSP cn st ot row n ∧ mSP cn st ot row n ≤ 4096000000000000 * (n : Int) := by
  intro n
  induction n with
  | zero => exact ⟨by simp [mSP], by simp [mSP]⟩
  | succ n ih =>
    have h1 := mSC_i hcn st row n
    have h2 := mSC_i hcn ot row n
    have h3 : ∀ x y : Int, -64000000 ≤ x → x ≤ 64000000 → -64000000 ≤ y → y ≤ 64000000 → -4096000000000000 ≤ x * y ∧ x * y ≤ 4096000000000000 := by
      intro x y a b c d
      have e1 : (x * y).natAbs ≤ 64000000 * 64000000 := by
        rw [Int.natAbs_mul]
        exact Nat.mul_le_mul (by omega) (by omega)
      omega
    have h4 := h3 _ _ h1.1 h1.2 h2.1 h2.2
    simp only [mSP]
    omega
set_option maxHeartbeats 4000000 in
set_option maxRecDepth 100000 in
theorem kX3_thrown (l : Launch) (D : va_G) (a : Nat → Nat) (kc : Nat → ClassId) (th : Int) (cn tt ce co it we tk fv : Int → Int) : Met l yX3_thrown (ws_ yX3_thrown cX3_thrown 1 (some .int)) ({ frames := 12, cells := 0, slots := 0, locals := 160 }) (va_Pc [.ref (a 0)] (mR D a kc th cn tt ce co it we tk fv)) (vp_Si (fun r => r = iI th)) 0 0 (fun _ => False) := by
  refine Met.ofW (cc := cX3_thrown) (maxL := 1) (ret := (some .int)) (by decide) rfl ?_
  intro p e s m args below meth c s₁ B hml hv
  obtain ⟨rfl, hW, hK⟩ := hv
  have hx := B.exec
  have hb := B.bytes
  have hr := B.returns
  have hlk := B.notSynchronized
  have hts := atoms_spec (ws := (ws_ yX3_thrown cX3_thrown 1 (some .int))) B.pre
  have hts : ∀ w ∈ lw_all, w.before _ s = true := fun w h => hts w (List.mem_cons_of_mem _ h)
  have hown : s.vm.findClass RX3 = some m.cls := findClass_of_methodNamed B.named
  have hl := lv_entry ([.ref (a 0)]) (n := 1) (Nat.le_of_ble_eq_true rfl)
  rw [lg_entry_eq]
  generalize (lg_sl ([.ref (a 0)]) ++ List.replicate (1 - (lg_sl ([.ref (a 0)])).length) Slot.unset).toArray = ls at hl ⊢
  have hl : lv_has ls 1 [(0, .ref (a 0))] := hl
  refine lv_aload_n hx hb dX3_thrown_0 rfl (lv_at hl 0 rfl) ?_
  refine w_getf (ci := 0) (v := .int (iI th)) (C := RX3) (T := TX3) (N := 9) hx hb hts in_X3 hown hK hW 0 (by decide) rfl rfl 0 (by decide) (hts _ q795) (fun _ h9 => h9) rfl dX3_thrown_1 ?_
  exact z_retS hx hb hr hlk (rfl) dX3_thrown_4
set_option maxHeartbeats 4000000 in
set_option maxRecDepth 100000 in
theorem kX3_holds (l : Launch) (D : va_G) (a : Nat → Nat) (kc : Nat → ClassId) (th : Int) (cn tt ce co it we tk fv : Int → Int) (sz : Nat) (v : Int) (hv : -2147483648 ≤ v ∧ v ≤ 2147483647) : Met l yX3_holds (ws_ yX3_holds cX3_holds 2 (some .boolean)) ({ frames := 12, cells := 0, slots := 0, locals := 160 }) (va_Pc [.ref (a 0), .int (iI v)] (mW D a kc th cn tt ce co it we tk fv sz)) (va_Qi (fun (r : Int32) (_ : Unit) => r = iI (zb (v = 0))) (fun (_ : Unit) t8 => RW D clz mL a (mct a kc v cn tt ce co it we tk fv) t8.heap) (RA mL a sz)) 0 0 (RA mL a sz) := by
  refine Met.ofW (cc := cX3_holds) (maxL := 2) (ret := (some .boolean)) (by decide) rfl ?_
  intro p e s m args below meth c s₁ B hml hv
  obtain ⟨rfl, hsz, hW, hK, hJ0⟩ := hv
  subst hsz
  have hJ := hJ0.self (sz := s.heap.size)
  have hS : va_S (RA mL a s.heap.size) s.heap s.heap [] := va_S.rf
  have hx := B.exec
  have hb := B.bytes
  have hr := B.returns
  have hlk := B.notSynchronized
  have hts := atoms_spec (ws := (ws_ yX3_holds cX3_holds 2 (some .boolean))) B.pre
  have hts : ∀ w ∈ lw_all, w.before _ s = true := fun w h => hts w (List.mem_cons_of_mem _ h)
  have hown : s.vm.findClass RX3 = some m.cls := findClass_of_methodNamed B.named
  have hl := lv_entry ([.ref (a 0), .int (iI v)]) (n := 2) (Nat.le_of_ble_eq_true rfl)
  rw [lg_entry_eq]
  generalize (lg_sl ([.ref (a 0), .int (iI v)]) ++ List.replicate (2 - (lg_sl ([.ref (a 0), .int (iI v)])).length) Slot.unset).toArray = ls at hl ⊢
  have hl : lv_has ls 2 [(0, .ref (a 0)), (1, .int (iI v))] := hl
  refine lv_aload_n hx hb dX3_holds_0 rfl (lv_at hl 0 rfl) ?_
  refine lv_iload_n hx hb dX3_holds_1 rfl (lv_at hl 1 rfl) ?_
  refine w_putf (ci := 0) (v := .int (iI v)) (ty := .int) (C := RX3) (T := TX3) (N := 9) hx hb hts in_X3 tyX3 tyX3_ok nmX3 hown hK hW hJ hS 0 (by decide) rfl rfl 0 (by decide) (hts _ q795) (fun _ h9 => h9) rfl (by decide +kernel) rfl rfl (Nat.le_of_ble_eq_true rfl) (mct_0 _ _ _ _ _ _ _ _ _ _ _ _) dX3_holds_2 (fun H locs hW hS hz => ?_)
  have hW : RW D clz mL a (mct a kc v cn tt ce co it we tk fv) H := hW
  refine lv_iload_n hx hb dX3_holds_5 rfl (lv_at hl 1 rfl) ?_
  refine z_if_ne (tgt := 13) hx hb dX3_holds_6 (by decide) (by omega) (fun c_1 => ?_) (fun c_1 => ?_)
  · refine lv_iconst (v := iI 0) hx hb dX3_holds_13 (by rfl) ?_
    exact z_retWB hx hb hr hlk hW hS (zb_f (by omega)) (Or.inl rfl) dX3_holds_14
  · refine lv_iconst (v := iI 1) hx hb dX3_holds_9 (by rfl) ?_
    refine lv_goto (tgt := 14) hx hb dX3_holds_10 (by decide) ?_
    exact z_retWB hx hb hr hlk hW hS (zb_t (by omega)) (Or.inr rfl) dX3_holds_14
set_option maxHeartbeats 4000000 in
set_option maxRecDepth 100000 in
theorem kX3_isItem (l : Launch) (D : va_G) (a : Nat → Nat) (kc : Nat → ClassId) (th : Int) (cn tt ce co it we tk fv : Int → Int) (sz : Nat) (st i : Int) (h_st : -2147483648 ≤ st ∧ st ≤ 2147483647) (h_i : -2147483648 ≤ i ∧ i ≤ 2147483647) : Met l yX3_isItem (ws_ yX3_isItem cX3_isItem 3 (some .boolean)) ({ frames := 14, cells := 0, slots := 0, locals := 240 }) (va_Pc [.ref (a 0), .int (iI st), .int (iI i)] (mW D a kc th cn tt ce co it we tk fv sz)) (va_Qi (fun (r : Int32) (_ : Unit) => r = iI (zb (cdI st i = 0))) (fun (_ : Unit) t8 => RW D clz mL a (mct a kc (cdI st i) cn tt ce co it we tk fv) t8.heap) (RA mL a sz)) 0 0 (RA mL a sz) := by
  refine Met.ofW (cc := cX3_isItem) (maxL := 3) (ret := (some .boolean)) (by decide) rfl ?_
  intro p e s m args below meth c s₁ B hml hv
  obtain ⟨rfl, hsz, hW, hK, hJ0⟩ := hv
  subst hsz
  have hJ := hJ0.self (sz := s.heap.size)
  have hS : va_S (RA mL a s.heap.size) s.heap s.heap [] := va_S.rf
  have hx := B.exec
  have hb := B.bytes
  have hr := B.returns
  have hlk := B.notSynchronized
  have hts := atoms_spec (ws := (ws_ yX3_isItem cX3_isItem 3 (some .boolean))) B.pre
  have hts : ∀ w ∈ lw_all, w.before _ s = true := fun w h => hts w (List.mem_cons_of_mem _ h)
  have hown : s.vm.findClass RX3 = some m.cls := findClass_of_methodNamed B.named
  have hl := lv_entry ([.ref (a 0), .int (iI st), .int (iI i)]) (n := 3) (Nat.le_of_ble_eq_true rfl)
  rw [lg_entry_eq]
  generalize (lg_sl ([.ref (a 0), .int (iI st), .int (iI i)]) ++ List.replicate (3 - (lg_sl ([.ref (a 0), .int (iI st), .int (iI i)])).length) Slot.unset).toArray = ls at hl ⊢
  have hl : lv_has ls 3 [(0, .ref (a 0)), (1, .int (iI st)), (2, .int (iI i))] := hl
  refine lv_aload_n hx hb dX3_isItem_0 rfl (lv_at hl 0 rfl) ?_
  refine lv_iload_n hx hb dX3_isItem_1 rfl (lv_at hl 1 rfl) ?_
  refine z_cs (W.runS (As := [.int (iI st)]) (rest := [.ref (a 0)]) ⟨hx, hb, hml, hown, hts⟩ (kX3_isStream l st (by omega)) (va_cwS 1 hts (lw_S q831 q832 q33 q833) rfl rfl rfl (by decide +kernel) ⟨Nat.le_of_ble_eq_true rfl, Nat.le_of_ble_eq_true rfl⟩) ⟨fun _ _ _ _ q => q, fun _ _ _ => ⟨rfl, trivial⟩⟩ rfl rfl hl.1 rfl (lv_room (Nat.le_of_ble_eq_true rfl)) dX3_isItem_2 ⟨Nat.le_of_ble_eq_true rfl, Nat.le_of_ble_eq_true rfl⟩) ?_
  refine z_if_eq (tgt := 21) hx hb dX3_isItem_5 (by decide) (zb_r _) (fun c_1 => ?_) (fun c_1 => ?_)
  · have c_1 := zb_0 c_1
    refine lv_iconst (v := iI 1) hx hb dX3_isItem_21 (by rfl) ?_
    refine va_calli (va_runV (As := [.int (iI 1)]) (rest := []) ⟨hx, hb, hml, hown, hts⟩ (kX3_holds l D a kc th cn tt ce co it we tk fv _ 1 (by omega)) (cwV 1 hts (lw_V q838 q840 qs11 q33 q841) rfl rfl rfl (by decide +kernel) ⟨Nat.le_of_ble_eq_true rfl, Nat.le_of_ble_eq_true rfl⟩) ⟨mW_blind, w_recv hK hW 0 (by decide) rfl rfl, mW_pre hW hK hJ.any⟩ rfl rfl hl.1 rfl (lv_room (Nat.le_of_ble_eq_true rfl)) dX3_isItem_22 ⟨Nat.le_of_ble_eq_true rfl, Nat.le_of_ble_eq_true rfl⟩) hS (fun q _ h => RA.mono hS.1 q h) (RA.mono hS.1) (fun r9 u9 t9 H locs ht9 hvm9 hr9 hB9 hz9 hk9 hS => ?_)
    subst hr9
    have hW : RW D clz mL a (mct a kc 1 cn tt ce co it we tk fv) H := by rw [← ht9]; exact hB9
    refine z_as 0 (by decide) ?_
    have hz9 : cdI st i = 1 := by unfold cdI; (repeat' split) <;> omega
    rw [hz9]
    exact z_retWB hx hb hr hlk hW hS (by decide) (Or.inl rfl) dX3_isItem_25
  · have c_1 := zb_1 c_1
    refine lv_iload_n hx hb dX3_isItem_8 rfl (lv_at hl 2 rfl) ?_
    refine lv_bipush (v := iI 64) hx hb dX3_isItem_9 (by rfl) ?_
    refine z_cs (W.runS (As := [.int (iI i), .int (iI 64)]) (rest := [.ref (a 0)]) ⟨hx, hb, hml, hown, hts⟩ (kX3_isIn l i 64 (by omega) (by omega)) (va_cwS 2 hts (lw_S q834 q835 q33 q836) rfl rfl rfl (by decide +kernel) ⟨Nat.le_of_ble_eq_true rfl, Nat.le_of_ble_eq_true rfl⟩) ⟨fun _ _ _ _ q => q, fun _ _ _ => ⟨rfl, trivial⟩⟩ rfl rfl hl.1 rfl (lv_room (Nat.le_of_ble_eq_true rfl)) dX3_isItem_11 ⟨Nat.le_of_ble_eq_true rfl, Nat.le_of_ble_eq_true rfl⟩) ?_
    refine z_if_eq (tgt := 21) hx hb dX3_isItem_14 (by decide) (zb_r _) (fun c_2 => ?_) (fun c_2 => ?_)
    · have c_2 := zb_0 c_2
      refine lv_iconst (v := iI 1) hx hb dX3_isItem_21 (by rfl) ?_
      refine va_calli (va_runV (As := [.int (iI 1)]) (rest := []) ⟨hx, hb, hml, hown, hts⟩ (kX3_holds l D a kc th cn tt ce co it we tk fv _ 1 (by omega)) (cwV 1 hts (lw_V q838 q840 qs11 q33 q841) rfl rfl rfl (by decide +kernel) ⟨Nat.le_of_ble_eq_true rfl, Nat.le_of_ble_eq_true rfl⟩) ⟨mW_blind, w_recv hK hW 0 (by decide) rfl rfl, mW_pre hW hK hJ.any⟩ rfl rfl hl.1 rfl (lv_room (Nat.le_of_ble_eq_true rfl)) dX3_isItem_22 ⟨Nat.le_of_ble_eq_true rfl, Nat.le_of_ble_eq_true rfl⟩) hS (fun q _ h => RA.mono hS.1 q h) (RA.mono hS.1) (fun r9 u9 t9 H locs ht9 hvm9 hr9 hB9 hz9 hk9 hS => ?_)
      subst hr9
      have hW : RW D clz mL a (mct a kc 1 cn tt ce co it we tk fv) H := by rw [← ht9]; exact hB9
      refine z_as 0 (by decide) ?_
      have hz9 : cdI st i = 1 := by unfold cdI; (repeat' split) <;> omega
      rw [hz9]
      exact z_retWB hx hb hr hlk hW hS (by decide) (Or.inl rfl) dX3_isItem_25
    · have c_2 := zb_1 c_2
      refine lv_iconst (v := iI 0) hx hb dX3_isItem_17 (by rfl) ?_
      refine lv_goto (tgt := 22) hx hb dX3_isItem_18 (by decide) ?_
      refine va_calli (va_runV (As := [.int (iI 0)]) (rest := []) ⟨hx, hb, hml, hown, hts⟩ (kX3_holds l D a kc th cn tt ce co it we tk fv _ 0 (by omega)) (cwV 1 hts (lw_V q838 q840 qs11 q33 q841) rfl rfl rfl (by decide +kernel) ⟨Nat.le_of_ble_eq_true rfl, Nat.le_of_ble_eq_true rfl⟩) ⟨mW_blind, w_recv hK hW 0 (by decide) rfl rfl, mW_pre hW hK hJ.any⟩ rfl rfl hl.1 rfl (lv_room (Nat.le_of_ble_eq_true rfl)) dX3_isItem_22 ⟨Nat.le_of_ble_eq_true rfl, Nat.le_of_ble_eq_true rfl⟩) hS (fun q _ h => RA.mono hS.1 q h) (RA.mono hS.1) (fun r9 u9 t9 H locs ht9 hvm9 hr9 hB9 hz9 hk9 hS => ?_)
      subst hr9
      have hW : RW D clz mL a (mct a kc 0 cn tt ce co it we tk fv) H := by rw [← ht9]; exact hB9
      refine z_as 1 (by decide) ?_
      have hz9 : cdI st i = 0 := by unfold cdI; (repeat' split) <;> omega
      rw [hz9]
      exact z_retWB hx hb hr hlk hW hS (by decide) (Or.inr rfl) dX3_isItem_25
set_option maxHeartbeats 4000000 in
set_option maxRecDepth 100000 in
theorem kX3_isRange (l : Launch) (D : va_G) (a : Nat → Nat) (kc : Nat → ClassId) (th : Int) (cn tt ce co it we tk fv : Int → Int) (sz : Nat) (b f t : Int) (h_b : -2147483648 ≤ b ∧ b ≤ 2147483647) (h_f : -2147483648 ≤ f ∧ f ≤ 2147483647) (h_t : -2147483648 ≤ t ∧ t ≤ 2147483647) : Met l yX3_isRange (ws_ yX3_isRange cX3_isRange 5 (some .boolean)) ({ frames := 14, cells := 0, slots := 0, locals := 240 }) (va_Pc [.ref (a 0), .int (iI b), .int (iI f), .int (iI t)] (mW D a kc th cn tt ce co it we tk fv sz)) (va_Qi (fun (r : Int32) (_ : Unit) => r = iI (zb (cdR b f t = 0))) (fun (_ : Unit) t8 => RW D clz mL a (mct a kc (cdR b f t) cn tt ce co it we tk fv) t8.heap) (RA mL a sz)) 0 0 (RA mL a sz) := by
  refine Met.ofW (cc := cX3_isRange) (maxL := 5) (ret := (some .boolean)) (by decide) rfl ?_
  intro p e s m args below meth c s₁ B hml hv
  obtain ⟨rfl, hsz, hW, hK, hJ0⟩ := hv
  subst hsz
  have hJ := hJ0.self (sz := s.heap.size)
  have hS : va_S (RA mL a s.heap.size) s.heap s.heap [] := va_S.rf
  have hx := B.exec
  have hb := B.bytes
  have hr := B.returns
  have hlk := B.notSynchronized
  have hts := atoms_spec (ws := (ws_ yX3_isRange cX3_isRange 5 (some .boolean))) B.pre
  have hts : ∀ w ∈ lw_all, w.before _ s = true := fun w h => hts w (List.mem_cons_of_mem _ h)
  have hown : s.vm.findClass RX3 = some m.cls := findClass_of_methodNamed B.named
  have hl := lv_entry ([.ref (a 0), .int (iI b), .int (iI f), .int (iI t)]) (n := 5) (Nat.le_of_ble_eq_true rfl)
  rw [lg_entry_eq]
  generalize (lg_sl ([.ref (a 0), .int (iI b), .int (iI f), .int (iI t)]) ++ List.replicate (5 - (lg_sl ([.ref (a 0), .int (iI b), .int (iI f), .int (iI t)])).length) Slot.unset).toArray = ls at hl ⊢
  have hl : lv_has ls 5 [(0, .ref (a 0)), (1, .int (iI b)), (2, .int (iI f)), (3, .int (iI t))] := hl
  refine lv_iload_n hx hb dX3_isRange_0 rfl (lv_at hl 1 rfl) ?_
  refine z_if_eq (tgt := 26) hx hb dX3_isRange_1 (by decide) (by omega) (fun c_1 => ?_) (fun c_1 => ?_)
  · refine lv_iconst (v := iI 0) hx hb dX3_isRange_26 (by rfl) ?_
    refine lv_istore (lv' := [(4, .int (iI 0)), (0, .ref (a 0)), (1, .int (iI b)), (2, .int (iI f)), (3, .int (iI t))]) hx hb dX3_isRange_27 hl (by decide) rfl (fun ls hl => ?_)
    refine lv_aload_n hx hb dX3_isRange_29 rfl (lv_at hl 1 rfl) ?_
    refine lv_iload hx hb dX3_isRange_30 (lv_at hl 0 rfl) ?_
    refine z_if_ne (tgt := 39) hx hb dX3_isRange_32 (by decide) (by decide) (fun h9 => absurd h9 (by decide)) (fun _ => ?_)
    refine lv_iconst (v := iI 1) hx hb dX3_isRange_35 (by rfl) ?_
    refine lv_goto (tgt := 49) hx hb dX3_isRange_36 (by decide) ?_
    refine va_calli (va_runV (As := [.int (iI 1)]) (rest := []) ⟨hx, hb, hml, hown, hts⟩ (kX3_holds l D a kc th cn tt ce co it we tk fv _ 1 (by omega)) (cwV 1 hts (lw_V q838 q840 qs11 q33 q841) rfl rfl rfl (by decide +kernel) ⟨Nat.le_of_ble_eq_true rfl, Nat.le_of_ble_eq_true rfl⟩) ⟨mW_blind, w_recv hK hW 0 (by decide) rfl rfl, mW_pre hW hK hJ.any⟩ rfl rfl hl.1 rfl (lv_room (Nat.le_of_ble_eq_true rfl)) dX3_isRange_49 ⟨Nat.le_of_ble_eq_true rfl, Nat.le_of_ble_eq_true rfl⟩) hS (fun q _ h => RA.mono hS.1 q h) (RA.mono hS.1) (fun r9 u9 t9 H locs ht9 hvm9 hr9 hB9 hz9 hk9 hS => ?_)
    subst hr9
    have hW : RW D clz mL a (mct a kc 1 cn tt ce co it we tk fv) H := by rw [← ht9]; exact hB9
    refine z_as 0 (by decide) ?_
    have hz9 : cdR b f t = 1 := by unfold cdR; (repeat' split) <;> omega
    rw [hz9]
    exact z_retWB hx hb hr hlk hW hS (by decide) (Or.inl rfl) dX3_isRange_52
  · refine lv_iload_n hx hb dX3_isRange_4 rfl (lv_at hl 2 rfl) ?_
    refine lv_bipush (v := iI 64) hx hb dX3_isRange_5 (by rfl) ?_
    refine z_cs (W.runS (As := [.int (iI f), .int (iI 64)]) (rest := []) ⟨hx, hb, hml, hown, hts⟩ (kX3_isIn l f 64 (by omega) (by omega)) (va_cwS 2 hts (lw_S q834 q835 q33 q836) rfl rfl rfl (by decide +kernel) ⟨Nat.le_of_ble_eq_true rfl, Nat.le_of_ble_eq_true rfl⟩) ⟨fun _ _ _ _ q => q, fun _ _ _ => ⟨rfl, trivial⟩⟩ rfl rfl hl.1 rfl (lv_room (Nat.le_of_ble_eq_true rfl)) dX3_isRange_7 ⟨Nat.le_of_ble_eq_true rfl, Nat.le_of_ble_eq_true rfl⟩) ?_
    refine z_if_eq (tgt := 26) hx hb dX3_isRange_10 (by decide) (zb_r _) (fun c_3 => ?_) (fun c_3 => ?_)
    · have c_3 := zb_0 c_3
      refine lv_iconst (v := iI 0) hx hb dX3_isRange_26 (by rfl) ?_
      refine lv_istore (lv' := [(4, .int (iI 0)), (0, .ref (a 0)), (1, .int (iI b)), (2, .int (iI f)), (3, .int (iI t))]) hx hb dX3_isRange_27 hl (by decide) rfl (fun ls hl => ?_)
      refine lv_aload_n hx hb dX3_isRange_29 rfl (lv_at hl 1 rfl) ?_
      refine lv_iload hx hb dX3_isRange_30 (lv_at hl 0 rfl) ?_
      refine z_if_ne (tgt := 39) hx hb dX3_isRange_32 (by decide) (by decide) (fun h9 => absurd h9 (by decide)) (fun _ => ?_)
      refine lv_iconst (v := iI 1) hx hb dX3_isRange_35 (by rfl) ?_
      refine lv_goto (tgt := 49) hx hb dX3_isRange_36 (by decide) ?_
      refine va_calli (va_runV (As := [.int (iI 1)]) (rest := []) ⟨hx, hb, hml, hown, hts⟩ (kX3_holds l D a kc th cn tt ce co it we tk fv _ 1 (by omega)) (cwV 1 hts (lw_V q838 q840 qs11 q33 q841) rfl rfl rfl (by decide +kernel) ⟨Nat.le_of_ble_eq_true rfl, Nat.le_of_ble_eq_true rfl⟩) ⟨mW_blind, w_recv hK hW 0 (by decide) rfl rfl, mW_pre hW hK hJ.any⟩ rfl rfl hl.1 rfl (lv_room (Nat.le_of_ble_eq_true rfl)) dX3_isRange_49 ⟨Nat.le_of_ble_eq_true rfl, Nat.le_of_ble_eq_true rfl⟩) hS (fun q _ h => RA.mono hS.1 q h) (RA.mono hS.1) (fun r9 u9 t9 H locs ht9 hvm9 hr9 hB9 hz9 hk9 hS => ?_)
      subst hr9
      have hW : RW D clz mL a (mct a kc 1 cn tt ce co it we tk fv) H := by rw [← ht9]; exact hB9
      refine z_as 0 (by decide) ?_
      have hz9 : cdR b f t = 1 := by unfold cdR; (repeat' split) <;> omega
      rw [hz9]
      exact z_retWB hx hb hr hlk hW hS (by decide) (Or.inl rfl) dX3_isRange_52
    · have c_3 := zb_1 c_3
      refine lv_iload_n hx hb dX3_isRange_13 rfl (lv_at hl 3 rfl) ?_
      refine lv_bipush (v := iI 64) hx hb dX3_isRange_14 (by rfl) ?_
      refine z_cs (W.runS (As := [.int (iI t), .int (iI 64)]) (rest := []) ⟨hx, hb, hml, hown, hts⟩ (kX3_isIn l t 64 (by omega) (by omega)) (va_cwS 2 hts (lw_S q834 q835 q33 q836) rfl rfl rfl (by decide +kernel) ⟨Nat.le_of_ble_eq_true rfl, Nat.le_of_ble_eq_true rfl⟩) ⟨fun _ _ _ _ q => q, fun _ _ _ => ⟨rfl, trivial⟩⟩ rfl rfl hl.1 rfl (lv_room (Nat.le_of_ble_eq_true rfl)) dX3_isRange_16 ⟨Nat.le_of_ble_eq_true rfl, Nat.le_of_ble_eq_true rfl⟩) ?_
      refine z_if_eq (tgt := 26) hx hb dX3_isRange_19 (by decide) (zb_r _) (fun c_5 => ?_) (fun c_5 => ?_)
      · have c_5 := zb_0 c_5
        refine lv_iconst (v := iI 0) hx hb dX3_isRange_26 (by rfl) ?_
        refine lv_istore (lv' := [(4, .int (iI 0)), (0, .ref (a 0)), (1, .int (iI b)), (2, .int (iI f)), (3, .int (iI t))]) hx hb dX3_isRange_27 hl (by decide) rfl (fun ls hl => ?_)
        refine lv_aload_n hx hb dX3_isRange_29 rfl (lv_at hl 1 rfl) ?_
        refine lv_iload hx hb dX3_isRange_30 (lv_at hl 0 rfl) ?_
        refine z_if_ne (tgt := 39) hx hb dX3_isRange_32 (by decide) (by decide) (fun h9 => absurd h9 (by decide)) (fun _ => ?_)
        refine lv_iconst (v := iI 1) hx hb dX3_isRange_35 (by rfl) ?_
        refine lv_goto (tgt := 49) hx hb dX3_isRange_36 (by decide) ?_
        refine va_calli (va_runV (As := [.int (iI 1)]) (rest := []) ⟨hx, hb, hml, hown, hts⟩ (kX3_holds l D a kc th cn tt ce co it we tk fv _ 1 (by omega)) (cwV 1 hts (lw_V q838 q840 qs11 q33 q841) rfl rfl rfl (by decide +kernel) ⟨Nat.le_of_ble_eq_true rfl, Nat.le_of_ble_eq_true rfl⟩) ⟨mW_blind, w_recv hK hW 0 (by decide) rfl rfl, mW_pre hW hK hJ.any⟩ rfl rfl hl.1 rfl (lv_room (Nat.le_of_ble_eq_true rfl)) dX3_isRange_49 ⟨Nat.le_of_ble_eq_true rfl, Nat.le_of_ble_eq_true rfl⟩) hS (fun q _ h => RA.mono hS.1 q h) (RA.mono hS.1) (fun r9 u9 t9 H locs ht9 hvm9 hr9 hB9 hz9 hk9 hS => ?_)
        subst hr9
        have hW : RW D clz mL a (mct a kc 1 cn tt ce co it we tk fv) H := by rw [← ht9]; exact hB9
        refine z_as 0 (by decide) ?_
        have hz9 : cdR b f t = 1 := by unfold cdR; (repeat' split) <;> omega
        rw [hz9]
        exact z_retWB hx hb hr hlk hW hS (by decide) (Or.inl rfl) dX3_isRange_52
      · have c_5 := zb_1 c_5
        refine lv_iconst (v := iI 1) hx hb dX3_isRange_22 (by rfl) ?_
        refine lv_goto (tgt := 27) hx hb dX3_isRange_23 (by decide) ?_
        refine lv_istore (lv' := [(4, .int (iI 1)), (0, .ref (a 0)), (1, .int (iI b)), (2, .int (iI f)), (3, .int (iI t))]) hx hb dX3_isRange_27 hl (by decide) rfl (fun ls hl => ?_)
        refine lv_aload_n hx hb dX3_isRange_29 rfl (lv_at hl 1 rfl) ?_
        refine lv_iload hx hb dX3_isRange_30 (lv_at hl 0 rfl) ?_
        refine z_if_ne (tgt := 39) hx hb dX3_isRange_32 (by decide) (by decide) (fun _ => ?_) (fun h9 => absurd h9 (by decide))
        refine lv_iload_n hx hb dX3_isRange_39 rfl (lv_at hl 4 rfl) ?_
        refine lv_iload_n hx hb dX3_isRange_40 rfl (lv_at hl 3 rfl) ?_
        refine z_icmp_ge (tgt := 48) hx hb dX3_isRange_41 (by decide) (by omega) (by omega) (fun c_8 => ?_) (fun c_8 => ?_)
        · refine lv_iconst (v := iI 0) hx hb dX3_isRange_48 (by rfl) ?_
          refine va_calli (va_runV (As := [.int (iI 0)]) (rest := []) ⟨hx, hb, hml, hown, hts⟩ (kX3_holds l D a kc th cn tt ce co it we tk fv _ 0 (by omega)) (cwV 1 hts (lw_V q838 q840 qs11 q33 q841) rfl rfl rfl (by decide +kernel) ⟨Nat.le_of_ble_eq_true rfl, Nat.le_of_ble_eq_true rfl⟩) ⟨mW_blind, w_recv hK hW 0 (by decide) rfl rfl, mW_pre hW hK hJ.any⟩ rfl rfl hl.1 rfl (lv_room (Nat.le_of_ble_eq_true rfl)) dX3_isRange_49 ⟨Nat.le_of_ble_eq_true rfl, Nat.le_of_ble_eq_true rfl⟩) hS (fun q _ h => RA.mono hS.1 q h) (RA.mono hS.1) (fun r9 u9 t9 H locs ht9 hvm9 hr9 hB9 hz9 hk9 hS => ?_)
          subst hr9
          have hW : RW D clz mL a (mct a kc 0 cn tt ce co it we tk fv) H := by rw [← ht9]; exact hB9
          refine z_as 1 (by decide) ?_
          have hz9 : cdR b f t = 0 := by unfold cdR; (repeat' split) <;> omega
          rw [hz9]
          exact z_retWB hx hb hr hlk hW hS (by decide) (Or.inr rfl) dX3_isRange_52
        · refine lv_iconst (v := iI 2) hx hb dX3_isRange_44 (by rfl) ?_
          refine lv_goto (tgt := 49) hx hb dX3_isRange_45 (by decide) ?_
          refine va_calli (va_runV (As := [.int (iI 2)]) (rest := []) ⟨hx, hb, hml, hown, hts⟩ (kX3_holds l D a kc th cn tt ce co it we tk fv _ 2 (by omega)) (cwV 1 hts (lw_V q838 q840 qs11 q33 q841) rfl rfl rfl (by decide +kernel) ⟨Nat.le_of_ble_eq_true rfl, Nat.le_of_ble_eq_true rfl⟩) ⟨mW_blind, w_recv hK hW 0 (by decide) rfl rfl, mW_pre hW hK hJ.any⟩ rfl rfl hl.1 rfl (lv_room (Nat.le_of_ble_eq_true rfl)) dX3_isRange_49 ⟨Nat.le_of_ble_eq_true rfl, Nat.le_of_ble_eq_true rfl⟩) hS (fun q _ h => RA.mono hS.1 q h) (RA.mono hS.1) (fun r9 u9 t9 H locs ht9 hvm9 hr9 hB9 hz9 hk9 hS => ?_)
          subst hr9
          have hW : RW D clz mL a (mct a kc 2 cn tt ce co it we tk fv) H := by rw [← ht9]; exact hB9
          refine z_as 0 (by decide) ?_
          have hz9 : cdR b f t = 2 := by unfold cdR; (repeat' split) <;> omega
          rw [hz9]
          exact z_retWB hx hb hr hlk hW hS (by decide) (Or.inl rfl) dX3_isRange_52
set_option maxHeartbeats 4000000 in
set_option maxRecDepth 100000 in
theorem kX3_isLeast (l : Launch) (D : va_G) (a : Nat → Nat) (kc : Nat → ClassId) (th : Int) (cn tt ce co it we tk fv : Int → Int) (sz : Nat) (st least : Int) (h_st : -2147483648 ≤ st ∧ st ≤ 2147483647) (h_least : -2147483648 ≤ least ∧ least ≤ 2147483647) : Met l yX3_isLeast (ws_ yX3_isLeast cX3_isLeast 3 (some .boolean)) ({ frames := 14, cells := 0, slots := 0, locals := 240 }) (va_Pc [.ref (a 0), .int (iI st), .int (iI least)] (mW D a kc th cn tt ce co it we tk fv sz)) (va_Qi (fun (r : Int32) (_ : Unit) => r = iI (zb (cdL st least = 0))) (fun (_ : Unit) t8 => RW D clz mL a (mct a kc (cdL st least) cn tt ce co it we tk fv) t8.heap) (RA mL a sz)) 0 0 (RA mL a sz) := by
  refine Met.ofW (cc := cX3_isLeast) (maxL := 3) (ret := (some .boolean)) (by decide) rfl ?_
  intro p e s m args below meth c s₁ B hml hv
  obtain ⟨rfl, hsz, hW, hK, hJ0⟩ := hv
  subst hsz
  have hJ := hJ0.self (sz := s.heap.size)
  have hS : va_S (RA mL a s.heap.size) s.heap s.heap [] := va_S.rf
  have hx := B.exec
  have hb := B.bytes
  have hr := B.returns
  have hlk := B.notSynchronized
  have hts := atoms_spec (ws := (ws_ yX3_isLeast cX3_isLeast 3 (some .boolean))) B.pre
  have hts : ∀ w ∈ lw_all, w.before _ s = true := fun w h => hts w (List.mem_cons_of_mem _ h)
  have hown : s.vm.findClass RX3 = some m.cls := findClass_of_methodNamed B.named
  have hl := lv_entry ([.ref (a 0), .int (iI st), .int (iI least)]) (n := 3) (Nat.le_of_ble_eq_true rfl)
  rw [lg_entry_eq]
  generalize (lg_sl ([.ref (a 0), .int (iI st), .int (iI least)]) ++ List.replicate (3 - (lg_sl ([.ref (a 0), .int (iI st), .int (iI least)])).length) Slot.unset).toArray = ls at hl ⊢
  have hl : lv_has ls 3 [(0, .ref (a 0)), (1, .int (iI st)), (2, .int (iI least))] := hl
  refine lv_aload_n hx hb dX3_isLeast_0 rfl (lv_at hl 0 rfl) ?_
  refine lv_iload_n hx hb dX3_isLeast_1 rfl (lv_at hl 1 rfl) ?_
  refine z_cs (W.runS (As := [.int (iI st)]) (rest := [.ref (a 0)]) ⟨hx, hb, hml, hown, hts⟩ (kX3_isStream l st (by omega)) (va_cwS 1 hts (lw_S q831 q832 q33 q833) rfl rfl rfl (by decide +kernel) ⟨Nat.le_of_ble_eq_true rfl, Nat.le_of_ble_eq_true rfl⟩) ⟨fun _ _ _ _ q => q, fun _ _ _ => ⟨rfl, trivial⟩⟩ rfl rfl hl.1 rfl (lv_room (Nat.le_of_ble_eq_true rfl)) dX3_isLeast_2 ⟨Nat.le_of_ble_eq_true rfl, Nat.le_of_ble_eq_true rfl⟩) ?_
  refine z_if_ne (tgt := 12) hx hb dX3_isLeast_5 (by decide) (zb_r _) (fun c_1 => ?_) (fun c_1 => ?_)
  · have c_1 := zb_1 c_1
    refine lv_iload_n hx hb dX3_isLeast_12 rfl (lv_at hl 2 rfl) ?_
    refine lv_iconst (v := iI 1) hx hb dX3_isLeast_13 (by rfl) ?_
    refine z_icmp_lt (tgt := 27) hx hb dX3_isLeast_14 (by decide) (by omega) (by decide) (fun c_2 => ?_) (fun c_2 => ?_)
    · refine lv_iconst (v := iI 2) hx hb dX3_isLeast_27 (by rfl) ?_
      refine va_calli (va_runV (As := [.int (iI 2)]) (rest := []) ⟨hx, hb, hml, hown, hts⟩ (kX3_holds l D a kc th cn tt ce co it we tk fv _ 2 (by omega)) (cwV 1 hts (lw_V q838 q840 qs11 q33 q841) rfl rfl rfl (by decide +kernel) ⟨Nat.le_of_ble_eq_true rfl, Nat.le_of_ble_eq_true rfl⟩) ⟨mW_blind, w_recv hK hW 0 (by decide) rfl rfl, mW_pre hW hK hJ.any⟩ rfl rfl hl.1 rfl (lv_room (Nat.le_of_ble_eq_true rfl)) dX3_isLeast_28 ⟨Nat.le_of_ble_eq_true rfl, Nat.le_of_ble_eq_true rfl⟩) hS (fun q _ h => RA.mono hS.1 q h) (RA.mono hS.1) (fun r9 u9 t9 H locs ht9 hvm9 hr9 hB9 hz9 hk9 hS => ?_)
      subst hr9
      have hW : RW D clz mL a (mct a kc 2 cn tt ce co it we tk fv) H := by rw [← ht9]; exact hB9
      refine z_as 0 (by decide) ?_
      have hz9 : cdL st least = 2 := by unfold cdL; (repeat' split) <;> omega
      rw [hz9]
      exact z_retWB hx hb hr hlk hW hS (by decide) (Or.inl rfl) dX3_isLeast_31
    · refine lv_iload_n hx hb dX3_isLeast_17 rfl (lv_at hl 2 rfl) ?_
      refine lv_ldc (v := iI 1000000) hx hb hown (hts _ q837) dX3_isLeast_18 ?_
      refine z_icmp_gt (tgt := 27) hx hb dX3_isLeast_20 (by decide) (by omega) (by decide) (fun c_3 => ?_) (fun c_3 => ?_)
      · refine lv_iconst (v := iI 2) hx hb dX3_isLeast_27 (by rfl) ?_
        refine va_calli (va_runV (As := [.int (iI 2)]) (rest := []) ⟨hx, hb, hml, hown, hts⟩ (kX3_holds l D a kc th cn tt ce co it we tk fv _ 2 (by omega)) (cwV 1 hts (lw_V q838 q840 qs11 q33 q841) rfl rfl rfl (by decide +kernel) ⟨Nat.le_of_ble_eq_true rfl, Nat.le_of_ble_eq_true rfl⟩) ⟨mW_blind, w_recv hK hW 0 (by decide) rfl rfl, mW_pre hW hK hJ.any⟩ rfl rfl hl.1 rfl (lv_room (Nat.le_of_ble_eq_true rfl)) dX3_isLeast_28 ⟨Nat.le_of_ble_eq_true rfl, Nat.le_of_ble_eq_true rfl⟩) hS (fun q _ h => RA.mono hS.1 q h) (RA.mono hS.1) (fun r9 u9 t9 H locs ht9 hvm9 hr9 hB9 hz9 hk9 hS => ?_)
        subst hr9
        have hW : RW D clz mL a (mct a kc 2 cn tt ce co it we tk fv) H := by rw [← ht9]; exact hB9
        refine z_as 0 (by decide) ?_
        have hz9 : cdL st least = 2 := by unfold cdL; (repeat' split) <;> omega
        rw [hz9]
        exact z_retWB hx hb hr hlk hW hS (by decide) (Or.inl rfl) dX3_isLeast_31
      · refine lv_iconst (v := iI 0) hx hb dX3_isLeast_23 (by rfl) ?_
        refine lv_goto (tgt := 28) hx hb dX3_isLeast_24 (by decide) ?_
        refine va_calli (va_runV (As := [.int (iI 0)]) (rest := []) ⟨hx, hb, hml, hown, hts⟩ (kX3_holds l D a kc th cn tt ce co it we tk fv _ 0 (by omega)) (cwV 1 hts (lw_V q838 q840 qs11 q33 q841) rfl rfl rfl (by decide +kernel) ⟨Nat.le_of_ble_eq_true rfl, Nat.le_of_ble_eq_true rfl⟩) ⟨mW_blind, w_recv hK hW 0 (by decide) rfl rfl, mW_pre hW hK hJ.any⟩ rfl rfl hl.1 rfl (lv_room (Nat.le_of_ble_eq_true rfl)) dX3_isLeast_28 ⟨Nat.le_of_ble_eq_true rfl, Nat.le_of_ble_eq_true rfl⟩) hS (fun q _ h => RA.mono hS.1 q h) (RA.mono hS.1) (fun r9 u9 t9 H locs ht9 hvm9 hr9 hB9 hz9 hk9 hS => ?_)
        subst hr9
        have hW : RW D clz mL a (mct a kc 0 cn tt ce co it we tk fv) H := by rw [← ht9]; exact hB9
        refine z_as 1 (by decide) ?_
        have hz9 : cdL st least = 0 := by unfold cdL; (repeat' split) <;> omega
        rw [hz9]
        exact z_retWB hx hb hr hlk hW hS (by decide) (Or.inr rfl) dX3_isLeast_31
  · have c_1 := zb_0 c_1
    refine lv_iconst (v := iI 1) hx hb dX3_isLeast_8 (by rfl) ?_
    refine lv_goto (tgt := 28) hx hb dX3_isLeast_9 (by decide) ?_
    refine va_calli (va_runV (As := [.int (iI 1)]) (rest := []) ⟨hx, hb, hml, hown, hts⟩ (kX3_holds l D a kc th cn tt ce co it we tk fv _ 1 (by omega)) (cwV 1 hts (lw_V q838 q840 qs11 q33 q841) rfl rfl rfl (by decide +kernel) ⟨Nat.le_of_ble_eq_true rfl, Nat.le_of_ble_eq_true rfl⟩) ⟨mW_blind, w_recv hK hW 0 (by decide) rfl rfl, mW_pre hW hK hJ.any⟩ rfl rfl hl.1 rfl (lv_room (Nat.le_of_ble_eq_true rfl)) dX3_isLeast_28 ⟨Nat.le_of_ble_eq_true rfl, Nat.le_of_ble_eq_true rfl⟩) hS (fun q _ h => RA.mono hS.1 q h) (RA.mono hS.1) (fun r9 u9 t9 H locs ht9 hvm9 hr9 hB9 hz9 hk9 hS => ?_)
    subst hr9
    have hW : RW D clz mL a (mct a kc 1 cn tt ce co it we tk fv) H := by rw [← ht9]; exact hB9
    refine z_as 0 (by decide) ?_
    have hz9 : cdL st least = 1 := by unfold cdL; (repeat' split) <;> omega
    rw [hz9]
    exact z_retWB hx hb hr hlk hW hS (by decide) (Or.inl rfl) dX3_isLeast_31
set_option maxHeartbeats 4000000 in
set_option maxRecDepth 100000 in
theorem kX3_total (l : Launch) (D : va_G) (a : Nat → Nat) (kc : Nat → ClassId) (th : Int) (cn tt ce co it we tk fv : Int → Int) (sz : Nat) (st : Int) (h_st : -2147483648 ≤ st ∧ st ≤ 2147483647) : Met l yX3_total (ws_ yX3_total cX3_total 2 (some .int)) ({ frames := 15, cells := 0, slots := 0, locals := 280 }) (va_Pc [.ref (a 0), .int (iI st)] (mW D a kc th cn tt ce co it we tk fv sz)) (va_Qi (fun (r : Int32) (_ : Unit) => r = iI (if cdS st = 0 then tt st else 0)) (fun (_ : Unit) t8 => RW D clz mL a (mct a kc (cdS st) cn tt ce co it we tk fv) t8.heap) (RA mL a sz)) 0 0 (RA mL a sz) := by
  refine Met.ofW (cc := cX3_total) (maxL := 2) (ret := (some .int)) (by decide) rfl ?_
  intro p e s m args below meth c s₁ B hml hv
  obtain ⟨rfl, hsz, hW, hK, hJ0⟩ := hv
  subst hsz
  have hJ := hJ0.self (sz := s.heap.size)
  have hS : va_S (RA mL a s.heap.size) s.heap s.heap [] := va_S.rf
  have hx := B.exec
  have hb := B.bytes
  have hr := B.returns
  have hlk := B.notSynchronized
  have hts := atoms_spec (ws := (ws_ yX3_total cX3_total 2 (some .int))) B.pre
  have hts : ∀ w ∈ lw_all, w.before _ s = true := fun w h => hts w (List.mem_cons_of_mem _ h)
  have hown : s.vm.findClass RX3 = some m.cls := findClass_of_methodNamed B.named
  have hl := lv_entry ([.ref (a 0), .int (iI st)]) (n := 2) (Nat.le_of_ble_eq_true rfl)
  rw [lg_entry_eq]
  generalize (lg_sl ([.ref (a 0), .int (iI st)]) ++ List.replicate (2 - (lg_sl ([.ref (a 0), .int (iI st)])).length) Slot.unset).toArray = ls at hl ⊢
  have hl : lv_has ls 2 [(0, .ref (a 0)), (1, .int (iI st))] := hl
  refine lv_aload_n hx hb dX3_total_0 rfl (lv_at hl 0 rfl) ?_
  refine lv_iload_n hx hb dX3_total_1 rfl (lv_at hl 1 rfl) ?_
  refine z_cs (W.runS (As := [.int (iI st)]) (rest := [.ref (a 0)]) ⟨hx, hb, hml, hown, hts⟩ (kX3_isStream l st (by omega)) (va_cwS 1 hts (lw_S q831 q832 q33 q833) rfl rfl rfl (by decide +kernel) ⟨Nat.le_of_ble_eq_true rfl, Nat.le_of_ble_eq_true rfl⟩) ⟨fun _ _ _ _ q => q, fun _ _ _ => ⟨rfl, trivial⟩⟩ rfl rfl hl.1 rfl (lv_room (Nat.le_of_ble_eq_true rfl)) dX3_total_2 ⟨Nat.le_of_ble_eq_true rfl, Nat.le_of_ble_eq_true rfl⟩) ?_
  refine z_if_eq (tgt := 12) hx hb dX3_total_5 (by decide) (zb_r _) (fun c_1 => ?_) (fun c_1 => ?_)
  · have c_1 := zb_0 c_1
    refine lv_iconst (v := iI 1) hx hb dX3_total_12 (by rfl) ?_
    refine va_calli (va_runV (As := [.int (iI 1)]) (rest := []) ⟨hx, hb, hml, hown, hts⟩ (kX3_holds l D a kc th cn tt ce co it we tk fv _ 1 (by omega)) (cwV 1 hts (lw_V q838 q840 qs11 q33 q841) rfl rfl rfl (by decide +kernel) ⟨Nat.le_of_ble_eq_true rfl, Nat.le_of_ble_eq_true rfl⟩) ⟨mW_blind, w_recv hK hW 0 (by decide) rfl rfl, mW_pre hW hK hJ.any⟩ rfl rfl hl.1 rfl (lv_room (Nat.le_of_ble_eq_true rfl)) dX3_total_13 ⟨Nat.le_of_ble_eq_true rfl, Nat.le_of_ble_eq_true rfl⟩) hS (fun q _ h => RA.mono hS.1 q h) (RA.mono hS.1) (fun r9 u9 t9 H locs ht9 hvm9 hr9 hB9 hz9 hk9 hS => ?_)
    subst hr9
    have hW : RW D clz mL a (mct a kc 1 cn tt ce co it we tk fv) H := by rw [← ht9]; exact hB9
    refine z_as 0 (by decide) ?_
    refine z_if_eq (tgt := 28) hx hb dX3_total_16 (by decide) (by decide) (fun _ => ?_) (fun h9 => absurd h9 (by decide))
    refine lv_iconst (v := iI 0) hx hb dX3_total_28 (by rfl) ?_
    have hz9 : cdS st = 1 := by unfold cdS; (repeat' split) <;> omega
    rw [hz9]
    exact z_retW hx hb hr hlk hW hS (by rw [if_neg (by decide)]) dX3_total_29
  · have c_1 := zb_1 c_1
    refine lv_iconst (v := iI 0) hx hb dX3_total_8 (by rfl) ?_
    refine lv_goto (tgt := 13) hx hb dX3_total_9 (by decide) ?_
    refine va_calli (va_runV (As := [.int (iI 0)]) (rest := []) ⟨hx, hb, hml, hown, hts⟩ (kX3_holds l D a kc th cn tt ce co it we tk fv _ 0 (by omega)) (cwV 1 hts (lw_V q838 q840 qs11 q33 q841) rfl rfl rfl (by decide +kernel) ⟨Nat.le_of_ble_eq_true rfl, Nat.le_of_ble_eq_true rfl⟩) ⟨mW_blind, w_recv hK hW 0 (by decide) rfl rfl, mW_pre hW hK hJ.any⟩ rfl rfl hl.1 rfl (lv_room (Nat.le_of_ble_eq_true rfl)) dX3_total_13 ⟨Nat.le_of_ble_eq_true rfl, Nat.le_of_ble_eq_true rfl⟩) hS (fun q _ h => RA.mono hS.1 q h) (RA.mono hS.1) (fun r9 u9 t9 H locs ht9 hvm9 hr9 hB9 hz9 hk9 hS => ?_)
    subst hr9
    have hW : RW D clz mL a (mct a kc 0 cn tt ce co it we tk fv) H := by rw [← ht9]; exact hB9
    refine z_as 1 (by decide) ?_
    refine z_if_eq (tgt := 28) hx hb dX3_total_16 (by decide) (by decide) (fun h9 => absurd h9 (by decide)) (fun _ => ?_)
    refine lv_aload_n hx hb dX3_total_19 rfl (lv_at hl 0 rfl) ?_
    refine w_getf (ci := 0) (v := .ref (a 2)) (C := RX3) (T := TX3) (N := 9) hx hb hts in_X3 hown hK hW 0 (by decide) rfl rfl 2 (by decide) (hts _ q797) (fun _ h9 => h9) rfl dX3_total_20 ?_
    refine lv_iload_n hx hb dX3_total_23 rfl (lv_at hl 1 rfl) ?_
    refine w_iald hx hb hK hW 2 0 (by decide) (n := 4) (g := tt) rfl rfl (by omega) (by decide) dX3_total_24 ?_
    refine lv_goto (tgt := 29) hx hb dX3_total_25 (by decide) ?_
    have hz9 : cdS st = 0 := by unfold cdS; (repeat' split) <;> omega
    rw [hz9]
    exact z_retW hx hb hr hlk hW hS (by rw [if_pos rfl]) dX3_total_29
set_option maxHeartbeats 4000000 in
set_option maxRecDepth 100000 in
theorem kX3_counters (l : Launch) (D : va_G) (a : Nat → Nat) (kc : Nat → ClassId) (th : Int) (cn tt ce co it we tk fv : Int → Int) (sz : Nat) (st : Int) (h_st : -2147483648 ≤ st ∧ st ≤ 2147483647) : Met l yX3_counters (ws_ yX3_counters cX3_counters 2 (some .int)) ({ frames := 15, cells := 0, slots := 0, locals := 280 }) (va_Pc [.ref (a 0), .int (iI st)] (mW D a kc th cn tt ce co it we tk fv sz)) (va_Qi (fun (r : Int32) (_ : Unit) => r = iI (if cdS st = 0 then co st else 0)) (fun (_ : Unit) t8 => RW D clz mL a (mct a kc (cdS st) cn tt ce co it we tk fv) t8.heap) (RA mL a sz)) 0 0 (RA mL a sz) := by
  refine Met.ofW (cc := cX3_counters) (maxL := 2) (ret := (some .int)) (by decide) rfl ?_
  intro p e s m args below meth c s₁ B hml hv
  obtain ⟨rfl, hsz, hW, hK, hJ0⟩ := hv
  subst hsz
  have hJ := hJ0.self (sz := s.heap.size)
  have hS : va_S (RA mL a s.heap.size) s.heap s.heap [] := va_S.rf
  have hx := B.exec
  have hb := B.bytes
  have hr := B.returns
  have hlk := B.notSynchronized
  have hts := atoms_spec (ws := (ws_ yX3_counters cX3_counters 2 (some .int))) B.pre
  have hts : ∀ w ∈ lw_all, w.before _ s = true := fun w h => hts w (List.mem_cons_of_mem _ h)
  have hown : s.vm.findClass RX3 = some m.cls := findClass_of_methodNamed B.named
  have hl := lv_entry ([.ref (a 0), .int (iI st)]) (n := 2) (Nat.le_of_ble_eq_true rfl)
  rw [lg_entry_eq]
  generalize (lg_sl ([.ref (a 0), .int (iI st)]) ++ List.replicate (2 - (lg_sl ([.ref (a 0), .int (iI st)])).length) Slot.unset).toArray = ls at hl ⊢
  have hl : lv_has ls 2 [(0, .ref (a 0)), (1, .int (iI st))] := hl
  refine lv_aload_n hx hb dX3_counters_0 rfl (lv_at hl 0 rfl) ?_
  refine lv_iload_n hx hb dX3_counters_1 rfl (lv_at hl 1 rfl) ?_
  refine z_cs (W.runS (As := [.int (iI st)]) (rest := [.ref (a 0)]) ⟨hx, hb, hml, hown, hts⟩ (kX3_isStream l st (by omega)) (va_cwS 1 hts (lw_S q831 q832 q33 q833) rfl rfl rfl (by decide +kernel) ⟨Nat.le_of_ble_eq_true rfl, Nat.le_of_ble_eq_true rfl⟩) ⟨fun _ _ _ _ q => q, fun _ _ _ => ⟨rfl, trivial⟩⟩ rfl rfl hl.1 rfl (lv_room (Nat.le_of_ble_eq_true rfl)) dX3_counters_2 ⟨Nat.le_of_ble_eq_true rfl, Nat.le_of_ble_eq_true rfl⟩) ?_
  refine z_if_eq (tgt := 12) hx hb dX3_counters_5 (by decide) (zb_r _) (fun c_1 => ?_) (fun c_1 => ?_)
  · have c_1 := zb_0 c_1
    refine lv_iconst (v := iI 1) hx hb dX3_counters_12 (by rfl) ?_
    refine va_calli (va_runV (As := [.int (iI 1)]) (rest := []) ⟨hx, hb, hml, hown, hts⟩ (kX3_holds l D a kc th cn tt ce co it we tk fv _ 1 (by omega)) (cwV 1 hts (lw_V q838 q840 qs11 q33 q841) rfl rfl rfl (by decide +kernel) ⟨Nat.le_of_ble_eq_true rfl, Nat.le_of_ble_eq_true rfl⟩) ⟨mW_blind, w_recv hK hW 0 (by decide) rfl rfl, mW_pre hW hK hJ.any⟩ rfl rfl hl.1 rfl (lv_room (Nat.le_of_ble_eq_true rfl)) dX3_counters_13 ⟨Nat.le_of_ble_eq_true rfl, Nat.le_of_ble_eq_true rfl⟩) hS (fun q _ h => RA.mono hS.1 q h) (RA.mono hS.1) (fun r9 u9 t9 H locs ht9 hvm9 hr9 hB9 hz9 hk9 hS => ?_)
    subst hr9
    have hW : RW D clz mL a (mct a kc 1 cn tt ce co it we tk fv) H := by rw [← ht9]; exact hB9
    refine z_as 0 (by decide) ?_
    refine z_if_eq (tgt := 28) hx hb dX3_counters_16 (by decide) (by decide) (fun _ => ?_) (fun h9 => absurd h9 (by decide))
    refine lv_iconst (v := iI 0) hx hb dX3_counters_28 (by rfl) ?_
    have hz9 : cdS st = 1 := by unfold cdS; (repeat' split) <;> omega
    rw [hz9]
    exact z_retW hx hb hr hlk hW hS (by rw [if_neg (by decide)]) dX3_counters_29
  · have c_1 := zb_1 c_1
    refine lv_iconst (v := iI 0) hx hb dX3_counters_8 (by rfl) ?_
    refine lv_goto (tgt := 13) hx hb dX3_counters_9 (by decide) ?_
    refine va_calli (va_runV (As := [.int (iI 0)]) (rest := []) ⟨hx, hb, hml, hown, hts⟩ (kX3_holds l D a kc th cn tt ce co it we tk fv _ 0 (by omega)) (cwV 1 hts (lw_V q838 q840 qs11 q33 q841) rfl rfl rfl (by decide +kernel) ⟨Nat.le_of_ble_eq_true rfl, Nat.le_of_ble_eq_true rfl⟩) ⟨mW_blind, w_recv hK hW 0 (by decide) rfl rfl, mW_pre hW hK hJ.any⟩ rfl rfl hl.1 rfl (lv_room (Nat.le_of_ble_eq_true rfl)) dX3_counters_13 ⟨Nat.le_of_ble_eq_true rfl, Nat.le_of_ble_eq_true rfl⟩) hS (fun q _ h => RA.mono hS.1 q h) (RA.mono hS.1) (fun r9 u9 t9 H locs ht9 hvm9 hr9 hB9 hz9 hk9 hS => ?_)
    subst hr9
    have hW : RW D clz mL a (mct a kc 0 cn tt ce co it we tk fv) H := by rw [← ht9]; exact hB9
    refine z_as 1 (by decide) ?_
    refine z_if_eq (tgt := 28) hx hb dX3_counters_16 (by decide) (by decide) (fun h9 => absurd h9 (by decide)) (fun _ => ?_)
    refine lv_aload_n hx hb dX3_counters_19 rfl (lv_at hl 0 rfl) ?_
    refine w_getf (ci := 0) (v := .ref (a 4)) (C := RX3) (T := TX3) (N := 9) hx hb hts in_X3 hown hK hW 0 (by decide) rfl rfl 4 (by decide) (hts _ q799) (fun _ h9 => h9) rfl dX3_counters_20 ?_
    refine lv_iload_n hx hb dX3_counters_23 rfl (lv_at hl 1 rfl) ?_
    refine w_iald hx hb hK hW 4 0 (by decide) (n := 4) (g := co) rfl rfl (by omega) (by decide) dX3_counters_24 ?_
    refine lv_goto (tgt := 29) hx hb dX3_counters_25 (by decide) ?_
    have hz9 : cdS st = 0 := by unfold cdS; (repeat' split) <;> omega
    rw [hz9]
    exact z_retW hx hb hr hlk hW hS (by rw [if_pos rfl]) dX3_counters_29
set_option maxHeartbeats 4000000 in
set_option maxRecDepth 100000 in
theorem kX3_taken (l : Launch) (D : va_G) (a : Nat → Nat) (kc : Nat → ClassId) (th : Int) (cn tt ce co it we tk fv : Int → Int) (sz : Nat) (st : Int) (h_st : -2147483648 ≤ st ∧ st ≤ 2147483647) : Met l yX3_taken (ws_ yX3_taken cX3_taken 2 (some .int)) ({ frames := 15, cells := 0, slots := 0, locals := 280 }) (va_Pc [.ref (a 0), .int (iI st)] (mW D a kc th cn tt ce co it we tk fv sz)) (va_Qi (fun (r : Int32) (_ : Unit) => r = iI (if cdS st = 0 then tk st else 0)) (fun (_ : Unit) t8 => RW D clz mL a (mct a kc (cdS st) cn tt ce co it we tk fv) t8.heap) (RA mL a sz)) 0 0 (RA mL a sz) := by
  refine Met.ofW (cc := cX3_taken) (maxL := 2) (ret := (some .int)) (by decide) rfl ?_
  intro p e s m args below meth c s₁ B hml hv
  obtain ⟨rfl, hsz, hW, hK, hJ0⟩ := hv
  subst hsz
  have hJ := hJ0.self (sz := s.heap.size)
  have hS : va_S (RA mL a s.heap.size) s.heap s.heap [] := va_S.rf
  have hx := B.exec
  have hb := B.bytes
  have hr := B.returns
  have hlk := B.notSynchronized
  have hts := atoms_spec (ws := (ws_ yX3_taken cX3_taken 2 (some .int))) B.pre
  have hts : ∀ w ∈ lw_all, w.before _ s = true := fun w h => hts w (List.mem_cons_of_mem _ h)
  have hown : s.vm.findClass RX3 = some m.cls := findClass_of_methodNamed B.named
  have hl := lv_entry ([.ref (a 0), .int (iI st)]) (n := 2) (Nat.le_of_ble_eq_true rfl)
  rw [lg_entry_eq]
  generalize (lg_sl ([.ref (a 0), .int (iI st)]) ++ List.replicate (2 - (lg_sl ([.ref (a 0), .int (iI st)])).length) Slot.unset).toArray = ls at hl ⊢
  have hl : lv_has ls 2 [(0, .ref (a 0)), (1, .int (iI st))] := hl
  refine lv_aload_n hx hb dX3_taken_0 rfl (lv_at hl 0 rfl) ?_
  refine lv_iload_n hx hb dX3_taken_1 rfl (lv_at hl 1 rfl) ?_
  refine z_cs (W.runS (As := [.int (iI st)]) (rest := [.ref (a 0)]) ⟨hx, hb, hml, hown, hts⟩ (kX3_isStream l st (by omega)) (va_cwS 1 hts (lw_S q831 q832 q33 q833) rfl rfl rfl (by decide +kernel) ⟨Nat.le_of_ble_eq_true rfl, Nat.le_of_ble_eq_true rfl⟩) ⟨fun _ _ _ _ q => q, fun _ _ _ => ⟨rfl, trivial⟩⟩ rfl rfl hl.1 rfl (lv_room (Nat.le_of_ble_eq_true rfl)) dX3_taken_2 ⟨Nat.le_of_ble_eq_true rfl, Nat.le_of_ble_eq_true rfl⟩) ?_
  refine z_if_eq (tgt := 12) hx hb dX3_taken_5 (by decide) (zb_r _) (fun c_1 => ?_) (fun c_1 => ?_)
  · have c_1 := zb_0 c_1
    refine lv_iconst (v := iI 1) hx hb dX3_taken_12 (by rfl) ?_
    refine va_calli (va_runV (As := [.int (iI 1)]) (rest := []) ⟨hx, hb, hml, hown, hts⟩ (kX3_holds l D a kc th cn tt ce co it we tk fv _ 1 (by omega)) (cwV 1 hts (lw_V q838 q840 qs11 q33 q841) rfl rfl rfl (by decide +kernel) ⟨Nat.le_of_ble_eq_true rfl, Nat.le_of_ble_eq_true rfl⟩) ⟨mW_blind, w_recv hK hW 0 (by decide) rfl rfl, mW_pre hW hK hJ.any⟩ rfl rfl hl.1 rfl (lv_room (Nat.le_of_ble_eq_true rfl)) dX3_taken_13 ⟨Nat.le_of_ble_eq_true rfl, Nat.le_of_ble_eq_true rfl⟩) hS (fun q _ h => RA.mono hS.1 q h) (RA.mono hS.1) (fun r9 u9 t9 H locs ht9 hvm9 hr9 hB9 hz9 hk9 hS => ?_)
    subst hr9
    have hW : RW D clz mL a (mct a kc 1 cn tt ce co it we tk fv) H := by rw [← ht9]; exact hB9
    refine z_as 0 (by decide) ?_
    refine z_if_eq (tgt := 28) hx hb dX3_taken_16 (by decide) (by decide) (fun _ => ?_) (fun h9 => absurd h9 (by decide))
    refine lv_iconst (v := iI 0) hx hb dX3_taken_28 (by rfl) ?_
    have hz9 : cdS st = 1 := by unfold cdS; (repeat' split) <;> omega
    rw [hz9]
    exact z_retW hx hb hr hlk hW hS (by rw [if_neg (by decide)]) dX3_taken_29
  · have c_1 := zb_1 c_1
    refine lv_iconst (v := iI 0) hx hb dX3_taken_8 (by rfl) ?_
    refine lv_goto (tgt := 13) hx hb dX3_taken_9 (by decide) ?_
    refine va_calli (va_runV (As := [.int (iI 0)]) (rest := []) ⟨hx, hb, hml, hown, hts⟩ (kX3_holds l D a kc th cn tt ce co it we tk fv _ 0 (by omega)) (cwV 1 hts (lw_V q838 q840 qs11 q33 q841) rfl rfl rfl (by decide +kernel) ⟨Nat.le_of_ble_eq_true rfl, Nat.le_of_ble_eq_true rfl⟩) ⟨mW_blind, w_recv hK hW 0 (by decide) rfl rfl, mW_pre hW hK hJ.any⟩ rfl rfl hl.1 rfl (lv_room (Nat.le_of_ble_eq_true rfl)) dX3_taken_13 ⟨Nat.le_of_ble_eq_true rfl, Nat.le_of_ble_eq_true rfl⟩) hS (fun q _ h => RA.mono hS.1 q h) (RA.mono hS.1) (fun r9 u9 t9 H locs ht9 hvm9 hr9 hB9 hz9 hk9 hS => ?_)
    subst hr9
    have hW : RW D clz mL a (mct a kc 0 cn tt ce co it we tk fv) H := by rw [← ht9]; exact hB9
    refine z_as 1 (by decide) ?_
    refine z_if_eq (tgt := 28) hx hb dX3_taken_16 (by decide) (by decide) (fun h9 => absurd h9 (by decide)) (fun _ => ?_)
    refine lv_aload_n hx hb dX3_taken_19 rfl (lv_at hl 0 rfl) ?_
    refine w_getf (ci := 0) (v := .ref (a 7)) (C := RX3) (T := TX3) (N := 9) hx hb hts in_X3 hown hK hW 0 (by decide) rfl rfl 7 (by decide) (hts _ q802) (fun _ h9 => h9) rfl dX3_taken_20 ?_
    refine lv_iload_n hx hb dX3_taken_23 rfl (lv_at hl 1 rfl) ?_
    refine w_iald hx hb hK hW 7 0 (by decide) (n := 4) (g := tk) rfl rfl (by omega) (by decide) dX3_taken_24 ?_
    refine lv_goto (tgt := 29) hx hb dX3_taken_25 (by decide) ?_
    have hz9 : cdS st = 0 := by unfold cdS; (repeat' split) <;> omega
    rw [hz9]
    exact z_retW hx hb hr hlk hW hS (by rw [if_pos rfl]) dX3_taken_29
set_option maxHeartbeats 4000000 in
set_option maxRecDepth 100000 in
theorem kX3_count (l : Launch) (D : va_G) (a : Nat → Nat) (kc : Nat → ClassId) (th : Int) (cn tt ce co it we tk fv : Int → Int) (sz : Nat) (st i : Int) (h_st : -2147483648 ≤ st ∧ st ≤ 2147483647) (h_i : -2147483648 ≤ i ∧ i ≤ 2147483647) : Met l yX3_count (ws_ yX3_count cX3_count 3 (some .int)) ({ frames := 15, cells := 0, slots := 0, locals := 280 }) (va_Pc [.ref (a 0), .int (iI st), .int (iI i)] (mW D a kc th cn tt ce co it we tk fv sz)) (va_Qi (fun (r : Int32) (_ : Unit) => r = iI (if cdI st i = 0 then cn (64 * st + i) else 0)) (fun (_ : Unit) t8 => RW D clz mL a (mct a kc (cdI st i) cn tt ce co it we tk fv) t8.heap) (RA mL a sz)) 0 0 (RA mL a sz) := by
  refine Met.ofW (cc := cX3_count) (maxL := 3) (ret := (some .int)) (by decide) rfl ?_
  intro p e s m args below meth c s₁ B hml hv
  obtain ⟨rfl, hsz, hW, hK, hJ0⟩ := hv
  subst hsz
  have hJ := hJ0.self (sz := s.heap.size)
  have hS : va_S (RA mL a s.heap.size) s.heap s.heap [] := va_S.rf
  have hx := B.exec
  have hb := B.bytes
  have hr := B.returns
  have hlk := B.notSynchronized
  have hts := atoms_spec (ws := (ws_ yX3_count cX3_count 3 (some .int))) B.pre
  have hts : ∀ w ∈ lw_all, w.before _ s = true := fun w h => hts w (List.mem_cons_of_mem _ h)
  have hown : s.vm.findClass RX3 = some m.cls := findClass_of_methodNamed B.named
  have hl := lv_entry ([.ref (a 0), .int (iI st), .int (iI i)]) (n := 3) (Nat.le_of_ble_eq_true rfl)
  rw [lg_entry_eq]
  generalize (lg_sl ([.ref (a 0), .int (iI st), .int (iI i)]) ++ List.replicate (3 - (lg_sl ([.ref (a 0), .int (iI st), .int (iI i)])).length) Slot.unset).toArray = ls at hl ⊢
  have hl : lv_has ls 3 [(0, .ref (a 0)), (1, .int (iI st)), (2, .int (iI i))] := hl
  refine lv_aload_n hx hb dX3_count_0 rfl (lv_at hl 0 rfl) ?_
  refine lv_iload_n hx hb dX3_count_1 rfl (lv_at hl 1 rfl) ?_
  refine lv_iload_n hx hb dX3_count_2 rfl (lv_at hl 2 rfl) ?_
  refine va_calli (va_runV (As := [.int (iI st), .int (iI i)]) (rest := []) ⟨hx, hb, hml, hown, hts⟩ (kX3_isItem l D a kc th cn tt ce co it we tk fv _ st i (by omega) (by omega)) (cwV 2 hts (lw_V q906 q908 qs21 q33 q909) rfl rfl rfl (by decide +kernel) ⟨Nat.le_of_ble_eq_true rfl, Nat.le_of_ble_eq_true rfl⟩) ⟨mW_blind, w_recv hK hW 0 (by decide) rfl rfl, mW_pre hW hK hJ.any⟩ rfl rfl hl.1 rfl (lv_room (Nat.le_of_ble_eq_true rfl)) dX3_count_3 ⟨Nat.le_of_ble_eq_true rfl, Nat.le_of_ble_eq_true rfl⟩) hS (fun q _ h => RA.mono hS.1 q h) (RA.mono hS.1) (fun r9 u9 t9 H locs ht9 hvm9 hr9 hB9 hz9 hk9 hS => ?_)
  subst hr9
  have hW : RW D clz mL a (mct a kc (cdI st i) cn tt ce co it we tk fv) H := by rw [← ht9]; exact hB9
  refine z_if_eq (tgt := 23) hx hb dX3_count_6 (by decide) (zb_r _) (fun c6 => ?_) (fun c6 => ?_)
  · have c6 := zb_0 c6
    refine lv_iconst (v := iI 0) hx hb dX3_count_23 (by rfl) ?_
    exact z_retW hx hb hr hlk hW hS (by first | rw [if_pos (by assumption)] | rw [if_neg (by assumption)]) dX3_count_24
  · have c6 := zb_1 c6
    have hq := cdI_0 c6
    refine lv_aload_n hx hb dX3_count_9 rfl (lv_at hl 0 rfl) ?_
    refine w_getf (ci := 0) (v := .ref (a 1)) (C := RX3) (T := TX3) (N := 9) hx hb hts in_X3 hown hK hW 0 (by decide) rfl rfl 1 (by decide) (hts _ q796) (fun _ h9 => h9) rfl dX3_count_10 ?_
    refine lv_bipush (v := iI 64) hx hb dX3_count_13 (by rfl) ?_
    refine lv_iload_n hx hb dX3_count_15 rfl (lv_at hl 1 rfl) ?_
    refine z_imul hx hb dX3_count_16 ?_
    refine lv_iload_n hx hb dX3_count_17 rfl (lv_at hl 2 rfl) ?_
    refine z_iadd hx hb dX3_count_18 ?_
    refine w_iald hx hb hK hW 1 0 (by decide) (n := 256) (g := cn) rfl rfl (by omega) (by decide) dX3_count_19 ?_
    refine lv_goto (tgt := 24) hx hb dX3_count_20 (by decide) ?_
    exact z_retW hx hb hr hlk hW hS (by first | rw [if_pos (by assumption)] | rw [if_neg (by assumption)]) dX3_count_24
set_option maxHeartbeats 4000000 in
set_option maxRecDepth 100000 in
theorem kX3_countOfRange (l : Launch) (D : va_G) (a : Nat → Nat) (kc : Nat → ClassId) (th : Int) (cn tt ce co it we tk fv : Int → Int) (sz : Nat) (st f t : Int) (h_st : -2147483648 ≤ st ∧ st ≤ 2147483647) (h_f : -2147483648 ≤ f ∧ f ≤ 2147483647) (h_t : -2147483648 ≤ t ∧ t ≤ 2147483647) : Met l yX3_countOfRange (ws_ yX3_countOfRange cX3_countOfRange 4 (some .int)) ({ frames := 15, cells := 0, slots := 0, locals := 280 }) (va_Pc [.ref (a 0), .int (iI st), .int (iI f), .int (iI t)] (mW D a kc th cn tt ce co it we tk fv sz)) (va_Qi (fun (r : Int32) (_ : Unit) => r = iI (if cdR (zb (0 ≤ st ∧ st < 4)) f t = 0 then zsum cn (64 * st + f) (t + 1 - f).toNat else 0)) (fun (_ : Unit) t8 => RW D clz mL a (mct a kc (cdR (zb (0 ≤ st ∧ st < 4)) f t) cn tt ce co it we tk fv) t8.heap) (RA mL a sz)) 0 0 (RA mL a sz) := by
  refine Met.ofW (cc := cX3_countOfRange) (maxL := 4) (ret := (some .int)) (by decide) rfl ?_
  intro p e s m args below meth c s₁ B hml hv
  obtain ⟨rfl, hsz, hW, hK, hJ0⟩ := hv
  subst hsz
  have hJ := hJ0.self (sz := s.heap.size)
  have hS : va_S (RA mL a s.heap.size) s.heap s.heap [] := va_S.rf
  have hx := B.exec
  have hb := B.bytes
  have hr := B.returns
  have hlk := B.notSynchronized
  have hts := atoms_spec (ws := (ws_ yX3_countOfRange cX3_countOfRange 4 (some .int))) B.pre
  have hts : ∀ w ∈ lw_all, w.before _ s = true := fun w h => hts w (List.mem_cons_of_mem _ h)
  have hown : s.vm.findClass RX3 = some m.cls := findClass_of_methodNamed B.named
  have hl := lv_entry ([.ref (a 0), .int (iI st), .int (iI f), .int (iI t)]) (n := 4) (Nat.le_of_ble_eq_true rfl)
  rw [lg_entry_eq]
  generalize (lg_sl ([.ref (a 0), .int (iI st), .int (iI f), .int (iI t)]) ++ List.replicate (4 - (lg_sl ([.ref (a 0), .int (iI st), .int (iI f), .int (iI t)])).length) Slot.unset).toArray = ls at hl ⊢
  have hl : lv_has ls 4 [(0, .ref (a 0)), (1, .int (iI st)), (2, .int (iI f)), (3, .int (iI t))] := hl
  refine lv_aload_n hx hb dX3_countOfRange_0 rfl (lv_at hl 0 rfl) ?_
  refine lv_iload_n hx hb dX3_countOfRange_1 rfl (lv_at hl 1 rfl) ?_
  refine z_cs (W.runS (As := [.int (iI st)]) (rest := [.ref (a 0)]) ⟨hx, hb, hml, hown, hts⟩ (kX3_isStream l st (by omega)) (va_cwS 1 hts (lw_S q831 q832 q33 q833) rfl rfl rfl (by decide +kernel) ⟨Nat.le_of_ble_eq_true rfl, Nat.le_of_ble_eq_true rfl⟩) ⟨fun _ _ _ _ q => q, fun _ _ _ => ⟨rfl, trivial⟩⟩ rfl rfl hl.1 rfl (lv_room (Nat.le_of_ble_eq_true rfl)) dX3_countOfRange_2 ⟨Nat.le_of_ble_eq_true rfl, Nat.le_of_ble_eq_true rfl⟩) ?_
  refine lv_iload_n hx hb dX3_countOfRange_5 rfl (lv_at hl 2 rfl) ?_
  refine lv_iload_n hx hb dX3_countOfRange_6 rfl (lv_at hl 3 rfl) ?_
  refine va_calli (va_runV (As := [.int (iI (zb (0 ≤ st ∧ st < 4))), .int (iI f), .int (iI t)]) (rest := []) ⟨hx, hb, hml, hown, hts⟩ (kX3_isRange l D a kc th cn tt ce co it we tk fv _ (zb (0 ≤ st ∧ st < 4)) f t (by first | omega | exact zb_r _) (by first | omega | exact zb_r _) (by first | omega | exact zb_r _)) (cwV 3 hts (lw_V q914 q916 qs22 q33 q917) rfl rfl rfl (by decide +kernel) ⟨Nat.le_of_ble_eq_true rfl, Nat.le_of_ble_eq_true rfl⟩) ⟨mW_blind, w_recv hK hW 0 (by decide) rfl rfl, mW_pre hW hK hJ.any⟩ rfl rfl hl.1 rfl (lv_room (Nat.le_of_ble_eq_true rfl)) dX3_countOfRange_7 ⟨Nat.le_of_ble_eq_true rfl, Nat.le_of_ble_eq_true rfl⟩) hS (fun q _ h => RA.mono hS.1 q h) (RA.mono hS.1) (fun r9 u9 t9 H locs ht9 hvm9 hr9 hB9 hz9 hk9 hS => ?_)
  subst hr9
  have hW : RW D clz mL a (mct a kc (cdR (zb (0 ≤ st ∧ st < 4)) f t) cn tt ce co it we tk fv) H := by rw [← ht9]; exact hB9
  refine z_if_eq (tgt := 23) hx hb dX3_countOfRange_10 (by decide) (zb_r _) (fun c10 => ?_) (fun c10 => ?_)
  · have c10 := zb_0 c10
    refine lv_iconst (v := iI 0) hx hb dX3_countOfRange_23 (by rfl) ?_
    exact z_retW hx hb hr hlk hW hS (by first | rw [if_pos (by assumption)] | rw [if_neg (by assumption)]) dX3_countOfRange_24
  · have c10 := zb_1 c10
    have hq := cdR_0 c10
    have hq2 := zb_1 hq.1
    refine lv_aload_n hx hb dX3_countOfRange_13 rfl (lv_at hl 0 rfl) ?_
    refine lv_iload_n hx hb dX3_countOfRange_14 rfl (lv_at hl 1 rfl) ?_
    refine lv_iload_n hx hb dX3_countOfRange_15 rfl (lv_at hl 2 rfl) ?_
    refine lv_iload_n hx hb dX3_countOfRange_16 rfl (lv_at hl 3 rfl) ?_
    refine z_cs (W.runV (As := [.int (iI st), .int (iI f), .int (iI t)]) (rest := []) ⟨hx, hb, hml, hown, hts⟩ (kX3_sum l D a kc (cdR (zb (0 ≤ st ∧ st < 4)) f t) cn tt ce co it we tk fv st f t (by omega) (by omega) (by omega)) (cwV 3 hts (lw_V q850 q852 qs14 q33 q853) rfl rfl rfl (by decide +kernel) ⟨Nat.le_of_ble_eq_true rfl, Nat.le_of_ble_eq_true rfl⟩) ⟨mR_blind, w_recv hK hW 0 (by decide) rfl rfl, mR_pre hW hK⟩ rfl rfl hl.1 rfl (lv_room (Nat.le_of_ble_eq_true rfl)) dX3_countOfRange_17 ⟨Nat.le_of_ble_eq_true rfl, Nat.le_of_ble_eq_true rfl⟩) ?_
    refine lv_goto (tgt := 24) hx hb dX3_countOfRange_20 (by decide) ?_
    exact z_retW hx hb hr hlk hW hS (by first | rw [if_pos (by assumption)] | rw [if_neg (by assumption)]) dX3_countOfRange_24

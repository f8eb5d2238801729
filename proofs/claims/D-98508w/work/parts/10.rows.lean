/-! ===== the judgement J: the machine at pc with locals L, stack st and a heap that is σ ===== -/
set_option maxRecDepth 100000
abbrev CX : Type := Program × Launch × Env × Room × State × MethodId × Array Value × List Frame × Method × Code
abbrev xP (X : CX) : Program := X.1
abbrev xL (X : CX) : Launch := X.2.1
abbrev xE (X : CX) : Env := X.2.2.1
abbrev xR (X : CX) : Room := X.2.2.2.1
abbrev xS (X : CX) : State := X.2.2.2.2.1
abbrev xM (X : CX) : MethodId := X.2.2.2.2.2.1
abbrev xA (X : CX) : Array Value := X.2.2.2.2.2.2.1
abbrev xB (X : CX) : List Frame := X.2.2.2.2.2.2.2.1
abbrev xH (X : CX) : Method := X.2.2.2.2.2.2.2.2.1
abbrev xC (X : CX) : Code := X.2.2.2.2.2.2.2.2.2
/-- what is fixed through a method's walk -/
def FX (X : CX) (E : EV) (cc : ByteArray) (nL : Nat) (ret : Option FieldType) (own nm : String) (n0 s0 fr lo : Nat) : Prop :=
  (xP X).tables.exec = Jvm.exec ∧ (xC X).code = cc ∧ (xH X).sig.returnType = ret ∧ (xC X).maxLocals = nL ∧ (xS X).vm.findClass own = some (xM X).cls ∧ (xH X).locks = false ∧ (xH X).name = nm ∧ (∀ w ∈ lw_all, w.before (xA X) (xS X) = true) ∧ KB E (xS X) ∧ GE E ∧ xR X = ({ frames := fr, cells := eMx E - n0, slots := eMs E - s0, locals := lo } : Room) ∧ (xS X).heap.size = eSz E n0 ∧ eLo E ≤ n0
def J (X : CX) (E : EV) (n0 s0 nL : Nat) (Q : State → Prop) (σ : St) (pc : Nat) (L : LV) (st : List TV) : Prop :=
  ∀ (H : Heap) (locs : List Loc) (ls : Array Slot), lv_has ls nL (lmp (eAd E) L) → Rel E σ H → va_S (eA E) (xS X).heap H locs → n0 ≤ sn σ → s0 ≤ ss σ →
    W (xP X) (xL X) (xE X) (xR X) (xS X) (xM X) (xA X) (xB X) (xH X) (xC X) H locs (sn σ - n0) (ss σ - s0) Q (F0 (xM X) pc ls (st.map (toV (eAd E))))
/-! unfolding a printed function along a walk -/
theorem ot {c : Prop} {d : Decidable c} {α : Type} {a b : Option α} {r : α} (hc : c) (h : @ite _ c d a b = some r) : a = some r := by rwa [if_pos hc] at h
theorem of {c : Prop} {d : Decidable c} {α : Type} {a b : Option α} {r : α} (hc : ¬ c) (h : @ite _ c d a b = some r) : b = some r := by rwa [if_neg hc] at h
/-- a guard -/
def gd {α : Type} (b : Bool) (x : Option α) : Option α := if b = true then x else none
theorem gd_e {α : Type} {b : Bool} {x : Option α} {r : α} (h : gd b x = some r) : b = true ∧ x = some r := by
  unfold gd at h
  by_cases c : b = true
  · rw [if_pos c] at h; exact ⟨c, h⟩
  · rw [if_neg c] at h; cases h
theorem gd_t {α : Type} {x : Option α} : gd true x = x := rfl
/-- a guard that is a proposition -/
noncomputable def gp {α : Type} (c : Prop) (x : Option α) : Option α := @ite _ c (Classical.propDecidable c) x none
theorem gp_e {α : Type} {c : Prop} {x : Option α} {r : α} (h : gp c x = some r) : c ∧ x = some r := by
  unfold gp at h
  by_cases k : c
  · rw [if_pos k] at h; exact ⟨k, h⟩
  · rw [if_neg k] at h; cases h
theorem gp_t {α : Type} {c : Prop} {x : Option α} (h : c) : gp c x = x := by unfold gp; rw [if_pos h]
/-- a name -/
def nam {α β : Type} (a : α) (f : α → β) : β := f a
theorem nam_e {α β : Type} {a : α} {f : α → Option β} {r : β} (h : nam a f = some r) : ∃ z, z = a ∧ f z = some r := ⟨a, rfl, h⟩
/-- a call's answer and state -/
def bnd {α β : Type} (x : Option (α × St)) (f : α → St → Option β) : Option β := match x with
  | none => none
  | some p => f p.1 p.2
theorem bnd_e {α β : Type} {x : Option (α × St)} {f : α → St → Option β} {r : β} (h : bnd x f = some r) : ∃ a s, x = some (a, s) ∧ f a s = some r := by
  cases x with
  | none => cases h
  | some p => exact ⟨p.1, p.2, rfl, h⟩
theorem bnd_s {α β : Type} {a : α} {s : St} {f : α → St → Option β} : bnd (some (a, s)) f = f a s := rfl
/-- a reference that must not be null -/
def drf {β : Type} (o : Option Nat) (f : Nat → Option β) : Option β := match o with
  | none => none
  | some a => f a
theorem drf_e {β : Type} {o : Option Nat} {f : Nat → Option β} {r : β} (h : drf o f = some r) : ∃ a, o = some a ∧ f a = some r := by
  cases o with
  | none => cases h
  | some a => exact ⟨a, rfl, h⟩
theorem drf_s {β : Type} {a : Nat} {f : Nat → Option β} : drf (some a) f = f a := rfl
/-- an index in range -/
def inb (i : Int32) (n : Nat) : Bool := !(decide (i < 0) || Nat.ble n i.toNatClampNeg)
theorem inb_iff {i : Int32} {n : Nat} : inb i n = true ↔ vp_in i n := by
  unfold inb vp_in
  rw [Bool.not_eq_true', Bool.or_eq_false_iff, decide_eq_false_iff_not, ← Bool.not_eq_true, Nat.ble_eq, not_or]
theorem inb_e {i : Int32} {n : Nat} (h : inb i n = true) : vp_in i n := inb_iff.mp h
def okN (σ : St) (n : Nat) : Bool := Nat.blt (sn σ) (smx σ) && Nat.ble (ss σ + n) (sms σ)
section JR
variable {X : CX} {E : EV} {cc : ByteArray} {nL : Nat} {ret : Option FieldType} {own nm : String} {n0 s0 fr lo : Nat} {Q : State → Prop} {σ σ1 : St} {pc : Nat} {L : LV} {rest : List TV}

theorem r_iconst (B : FX X E cc nL ret own nm n0 s0 fr lo) {n : Int} {v : Int32} (d : decode cc pc = .ok (.iconst n, 1)) (hv : Int32.ofInt n = v) (k : J X E n0 s0 nL Q σ (pc + 1) L (vi v :: rest)) : J X E n0 s0 nL Q σ pc L (rest) :=
  fun H locs ls hl hR hS h1 h2 => lv_iconst B.1 B.2.1 d hv (k H locs ls hl hR hS h1 h2)
theorem r_bipush (B : FX X E cc nL ret own nm n0 s0 fr lo) {n : Int} {v : Int32} (d : decode cc pc = .ok (.bipush n, 2)) (hv : (Int8.ofInt n).toInt32 = v) (k : J X E n0 s0 nL Q σ (pc + 2) L (vi v :: rest)) : J X E n0 s0 nL Q σ pc L (rest) :=
  fun H locs ls hl hR hS h1 h2 => lv_bipush B.1 B.2.1 d hv (k H locs ls hl hR hS h1 h2)
theorem r_sipush (B : FX X E cc nL ret own nm n0 s0 fr lo) {n : Int} {v : Int32} (d : decode cc pc = .ok (.sipush n, 3)) (hv : (Int16.ofInt n).toInt32 = v) (k : J X E n0 s0 nL Q σ (pc + 3) L (vi v :: rest)) : J X E n0 s0 nL Q σ pc L (rest) :=
  fun H locs ls hl hR hS h1 h2 => lv_sipush B.1 B.2.1 d hv (k H locs ls hl hR hS h1 h2)
theorem r_lconst (B : FX X E cc nL ret own nm n0 s0 fr lo) {n : Fin 2} {v : Int64} (d : decode cc pc = .ok (.lconst n, 1)) (hv : Int64.ofNat (n : Nat) = v) (k : J X E n0 s0 nL Q σ (pc + 1) L (vl v :: rest)) : J X E n0 s0 nL Q σ pc L (rest) :=
  fun H locs ls hl hR hS h1 h2 => lv_lconst B.1 B.2.1 d hv (k H locs ls hl hR hS h1 h2)
theorem r_ldc (B : FX X E cc nL ret own nm n0 s0 fr lo) {i : Nat} {v : Int32} (d : decode cc pc = .ok (.ldc i, 2)) (hw : Cond.constant own i v ∈ lw_all) (k : J X E n0 s0 nL Q σ (pc + 2) L (vi v :: rest)) : J X E n0 s0 nL Q σ pc L (rest) :=
  fun H locs ls hl hR hS h1 h2 => lv_ldc B.1 B.2.1 B.2.2.2.2.1 (B.2.2.2.2.2.2.2.1 _ hw) d (k H locs ls hl hR hS h1 h2)
theorem r_ldcw (B : FX X E cc nL ret own nm n0 s0 fr lo) {i : Nat} {v : Int32} (d : decode cc pc = .ok (.ldc_w i, 3)) (hw : Cond.constant own i v ∈ lw_all) (k : J X E n0 s0 nL Q σ (pc + 3) L (vi v :: rest)) : J X E n0 s0 nL Q σ pc L (rest) :=
  fun H locs ls hl hR hS h1 h2 => lv_ldcw B.1 B.2.1 B.2.2.2.2.1 (B.2.2.2.2.2.2.2.1 _ hw) d (k H locs ls hl hR hS h1 h2)
theorem r_ldc2 (B : FX X E cc nL ret own nm n0 s0 fr lo) {i : Nat} {v : Int64} (d : decode cc pc = .ok (.ldc2_w i, 3)) (hw : Cond.constantLong own i v ∈ lw_all) (k : J X E n0 s0 nL Q σ (pc + 3) L (vl v :: rest)) : J X E n0 s0 nL Q σ pc L (rest) :=
  fun H locs ls hl hR hS h1 h2 => lv_ldc2 B.1 B.2.1 B.2.2.2.2.1 (B.2.2.2.2.2.2.2.1 _ hw) d (k H locs ls hl hR hS h1 h2)
theorem r_null (B : FX X E cc nL ret own nm n0 s0 fr lo)  (d : decode cc pc = .ok (.aconst_null, 1))  (k : J X E n0 s0 nL Q σ (pc + 1) L (vr none :: rest)) : J X E n0 s0 nL Q σ pc L (rest) :=
  fun H locs ls hl hR hS h1 h2 => lv_null B.1 B.2.1 d (k H locs ls hl hR hS h1 h2)
theorem r_iload_n (B : FX X E cc nL ret own nm n0 s0 fr lo) {q : Fin 4} {i j : Nat} {x : Int32} (d : decode cc pc = .ok (.iload_n q, 1)) (hi : (q : Nat) = i) (hj : L[j]? = some (i, vi x)) (k : J X E n0 s0 nL Q σ (pc + 1) L (vi x :: rest)) : J X E n0 s0 nL Q σ pc L (rest) :=
  fun H locs ls hl hR hS h1 h2 => lv_iload_n B.1 B.2.1 d hi (lv_at hl j (lmp_at hj)) (k H locs ls hl hR hS h1 h2)
theorem r_iload (B : FX X E cc nL ret own nm n0 s0 fr lo) {i j : Nat} {x : Int32} (d : decode cc pc = .ok (.iload i, 2)) (hj : L[j]? = some (i, vi x)) (k : J X E n0 s0 nL Q σ (pc + 2) L (vi x :: rest)) : J X E n0 s0 nL Q σ pc L (rest) :=
  fun H locs ls hl hR hS h1 h2 => lv_iload B.1 B.2.1 d (lv_at hl j (lmp_at hj)) (k H locs ls hl hR hS h1 h2)
theorem r_lload_n (B : FX X E cc nL ret own nm n0 s0 fr lo) {q : Fin 4} {i j : Nat} {x : Int64} (d : decode cc pc = .ok (.lload_n q, 1)) (hi : (q : Nat) = i) (hj : L[j]? = some (i, vl x)) (k : J X E n0 s0 nL Q σ (pc + 1) L (vl x :: rest)) : J X E n0 s0 nL Q σ pc L (rest) :=
  fun H locs ls hl hR hS h1 h2 => lv_lload_n B.1 B.2.1 d hi (lv_at hl j (lmp_at hj)) (k H locs ls hl hR hS h1 h2)
theorem r_lload (B : FX X E cc nL ret own nm n0 s0 fr lo) {i j : Nat} {x : Int64} (d : decode cc pc = .ok (.lload i, 2)) (hj : L[j]? = some (i, vl x)) (k : J X E n0 s0 nL Q σ (pc + 2) L (vl x :: rest)) : J X E n0 s0 nL Q σ pc L (rest) :=
  fun H locs ls hl hR hS h1 h2 => lv_lload B.1 B.2.1 d (lv_at hl j (lmp_at hj)) (k H locs ls hl hR hS h1 h2)
theorem r_aload_n (B : FX X E cc nL ret own nm n0 s0 fr lo) {q : Fin 4} {i j : Nat} {x : Option Nat} (d : decode cc pc = .ok (.aload_n q, 1)) (hi : (q : Nat) = i) (hj : L[j]? = some (i, vr x)) (k : J X E n0 s0 nL Q σ (pc + 1) L (vr x :: rest)) : J X E n0 s0 nL Q σ pc L rest := by
  intro H locs ls hl hR hS h1 h2
  have e := lv_at hl j (lmp_at hj)
  have kk := k H locs ls hl hR hS h1 h2
  cases x with
  | none => exact lv_aload_nN B.1 B.2.1 d hi e kk
  | some a => exact lv_aload_n B.1 B.2.1 d hi e kk
theorem r_aload (B : FX X E cc nL ret own nm n0 s0 fr lo) {i j : Nat} {x : Option Nat} (d : decode cc pc = .ok (.aload i, 2)) (hj : L[j]? = some (i, vr x)) (k : J X E n0 s0 nL Q σ (pc + 2) L (vr x :: rest)) : J X E n0 s0 nL Q σ pc L rest := by
  intro H locs ls hl hR hS h1 h2
  have e := lv_at hl j (lmp_at hj)
  have kk := k H locs ls hl hR hS h1 h2
  cases x with
  | none => exact lv_aloadN B.1 B.2.1 d e kk
  | some a => exact lv_aload B.1 B.2.1 d e kk
theorem r_istore_n (B : FX X E cc nL ret own nm n0 s0 fr lo) {q : Fin 4} {i : Nat} {x : Int32} {L' : LV} (d : decode cc pc = .ok (.istore_n q, 1)) (hi : (q : Nat) = i) (hn : i < nL) (hs : lso L = true) (ho : lok i (vi x) L = true) (hL : lins i (vi x) L = L') (k : J X E n0 s0 nL Q σ (pc + 1) L' rest) : J X E n0 s0 nL Q σ pc L (vi x :: rest) :=
  fun H locs ls hl hR hS h1 h2 => lv_istore_n B.1 B.2.1 d hi hl hn rfl fun ls' hl' => k H locs ls' (lins_has1 hs ho hL hl') hR hS h1 h2
theorem r_istore (B : FX X E cc nL ret own nm n0 s0 fr lo) {i : Nat} {x : Int32} {L' : LV} (d : decode cc pc = .ok (.istore i, 2)) (hn : i < nL) (hs : lso L = true) (ho : lok i (vi x) L = true) (hL : lins i (vi x) L = L') (k : J X E n0 s0 nL Q σ (pc + 2) L' rest) : J X E n0 s0 nL Q σ pc L (vi x :: rest) :=
  fun H locs ls hl hR hS h1 h2 => lv_istore B.1 B.2.1 d hl hn rfl fun ls' hl' => k H locs ls' (lins_has1 hs ho hL hl') hR hS h1 h2
theorem r_lstore_n (B : FX X E cc nL ret own nm n0 s0 fr lo) {q : Fin 4} {i : Nat} {x : Int64} {L' : LV} (d : decode cc pc = .ok (.lstore_n q, 1)) (hi : (q : Nat) = i) (hn : i + 1 < nL) (hs : lso L = true) (ho : lok i (vl x) L = true) (hL : lins i (vl x) L = L') (k : J X E n0 s0 nL Q σ (pc + 1) L' rest) : J X E n0 s0 nL Q σ pc L (vl x :: rest) :=
  fun H locs ls hl hR hS h1 h2 => lv_lstore_n B.1 B.2.1 d hi hl hn rfl fun ls' hl' => k H locs ls' (lins_has2 rfl hs ho hL hl') hR hS h1 h2
theorem r_lstore (B : FX X E cc nL ret own nm n0 s0 fr lo) {i : Nat} {x : Int64} {L' : LV} (d : decode cc pc = .ok (.lstore i, 2)) (hn : i + 1 < nL) (hs : lso L = true) (ho : lok i (vl x) L = true) (hL : lins i (vl x) L = L') (k : J X E n0 s0 nL Q σ (pc + 2) L' rest) : J X E n0 s0 nL Q σ pc L (vl x :: rest) :=
  fun H locs ls hl hR hS h1 h2 => lv_lstore B.1 B.2.1 d hl hn rfl fun ls' hl' => k H locs ls' (lins_has2 rfl hs ho hL hl') hR hS h1 h2
theorem r_astore_n (B : FX X E cc nL ret own nm n0 s0 fr lo) {q : Fin 4} {i : Nat} {x : Option Nat} {L' : LV} (d : decode cc pc = .ok (.astore_n q, 1)) (hi : (q : Nat) = i) (hn : i < nL) (hs : lso L = true) (ho : lok i (vr x) L = true) (hL : lins i (vr x) L = L') (k : J X E n0 s0 nL Q σ (pc + 1) L' rest) : J X E n0 s0 nL Q σ pc L (vr x :: rest) := by
  intro H locs ls hl hR hS h1 h2
  have kk : ∀ ls', lv_has ls' nL ((i, toV (eAd E) (vr x)) :: (lmp (eAd E) L).filter (fun q => !(q.1 == i) && !(q.1 + 1 == i && q.2.category == 2))) → _ := fun ls' hl' => k H locs ls' (lins_has1 hs ho hL hl') hR hS h1 h2
  cases x with
  | none => exact lv_astore_nN B.1 B.2.1 d hi hl hn rfl kk
  | some a => exact lv_astore_n B.1 B.2.1 d hi hl hn rfl kk
theorem r_astore (B : FX X E cc nL ret own nm n0 s0 fr lo) {i : Nat} {x : Option Nat} {L' : LV} (d : decode cc pc = .ok (.astore i, 2)) (hn : i < nL) (hs : lso L = true) (ho : lok i (vr x) L = true) (hL : lins i (vr x) L = L') (k : J X E n0 s0 nL Q σ (pc + 2) L' rest) : J X E n0 s0 nL Q σ pc L (vr x :: rest) := by
  intro H locs ls hl hR hS h1 h2
  have kk : ∀ ls', lv_has ls' nL ((i, toV (eAd E) (vr x)) :: (lmp (eAd E) L).filter (fun q => !(q.1 == i) && !(q.1 + 1 == i && q.2.category == 2))) → _ := fun ls' hl' => k H locs ls' (lins_has1 hs ho hL hl') hR hS h1 h2
  cases x with
  | none => exact lv_astoreN B.1 B.2.1 d hl hn rfl kk
  | some a => exact lv_astore B.1 B.2.1 d hl hn rfl kk
theorem r_iinc (B : FX X E cc nL ret own nm n0 s0 fr lo) {i j : Nat} {n : Int} {x v : Int32} {L' : LV} (d : decode cc pc = .ok (.iinc i n, 3)) (hj : L[j]? = some (i, vi x)) (hv : x + Int32.ofInt n = v) (hn : i < nL) (hs : lso L = true) (ho : lok i (vi v) L = true) (hL : lins i (vi v) L = L') (k : J X E n0 s0 nL Q σ (pc + 3) L' rest) : J X E n0 s0 nL Q σ pc L rest :=
  fun H locs ls hl hR hS h1 h2 => lv_iinc B.1 B.2.1 d hl (lmp_at hj) hv hn rfl fun ls' hl' => k H locs ls' (lins_has1 hs ho hL hl') hR hS h1 h2
theorem r_pick (ks : List Nat) {L' : LV} {st : List TV} (hL : lpk L ks = L') (k : J X E n0 s0 nL Q σ pc L' st) : J X E n0 s0 nL Q σ pc L st :=
  fun H locs ls hl hR hS h1 h2 => k H locs ls (lpk_has ks hL hl) hR hS h1 h2
theorem r_iadd (B : FX X E cc nL ret own nm n0 s0 fr lo) {x y : Int32} (d : decode cc pc = .ok (.iadd, 1))  (k : J X E n0 s0 nL Q σ (pc + 1) L (vi (x + y) :: rest)) : J X E n0 s0 nL Q σ pc L (vi y :: vi x :: rest) :=
  fun H locs ls hl hR hS h1 h2 => lv_iadd B.1 B.2.1 d (k H locs ls hl hR hS h1 h2)
theorem r_ladd (B : FX X E cc nL ret own nm n0 s0 fr lo) {x y : Int64} (d : decode cc pc = .ok (.ladd, 1))  (k : J X E n0 s0 nL Q σ (pc + 1) L (vl (x + y) :: rest)) : J X E n0 s0 nL Q σ pc L (vl y :: vl x :: rest) :=
  fun H locs ls hl hR hS h1 h2 => lv_ladd B.1 B.2.1 d (k H locs ls hl hR hS h1 h2)
theorem r_isub (B : FX X E cc nL ret own nm n0 s0 fr lo) {x y : Int32} (d : decode cc pc = .ok (.isub, 1))  (k : J X E n0 s0 nL Q σ (pc + 1) L (vi (x - y) :: rest)) : J X E n0 s0 nL Q σ pc L (vi y :: vi x :: rest) :=
  fun H locs ls hl hR hS h1 h2 => lv_isub B.1 B.2.1 d (k H locs ls hl hR hS h1 h2)
theorem r_lsub (B : FX X E cc nL ret own nm n0 s0 fr lo) {x y : Int64} (d : decode cc pc = .ok (.lsub, 1))  (k : J X E n0 s0 nL Q σ (pc + 1) L (vl (x - y) :: rest)) : J X E n0 s0 nL Q σ pc L (vl y :: vl x :: rest) :=
  fun H locs ls hl hR hS h1 h2 => lv_lsub B.1 B.2.1 d (k H locs ls hl hR hS h1 h2)
theorem r_imul (B : FX X E cc nL ret own nm n0 s0 fr lo) {x y : Int32} (d : decode cc pc = .ok (.imul, 1))  (k : J X E n0 s0 nL Q σ (pc + 1) L (vi (x * y) :: rest)) : J X E n0 s0 nL Q σ pc L (vi y :: vi x :: rest) :=
  fun H locs ls hl hR hS h1 h2 => lv_imul B.1 B.2.1 d (k H locs ls hl hR hS h1 h2)
theorem r_lmul (B : FX X E cc nL ret own nm n0 s0 fr lo) {x y : Int64} (d : decode cc pc = .ok (.lmul, 1))  (k : J X E n0 s0 nL Q σ (pc + 1) L (vl (x * y) :: rest)) : J X E n0 s0 nL Q σ pc L (vl y :: vl x :: rest) :=
  fun H locs ls hl hR hS h1 h2 => lv_lmul B.1 B.2.1 d (k H locs ls hl hR hS h1 h2)
theorem r_iand (B : FX X E cc nL ret own nm n0 s0 fr lo) {x y : Int32} (d : decode cc pc = .ok (.iand, 1))  (k : J X E n0 s0 nL Q σ (pc + 1) L (vi (x &&& y) :: rest)) : J X E n0 s0 nL Q σ pc L (vi y :: vi x :: rest) :=
  fun H locs ls hl hR hS h1 h2 => lv_iand B.1 B.2.1 d (k H locs ls hl hR hS h1 h2)
theorem r_land (B : FX X E cc nL ret own nm n0 s0 fr lo) {x y : Int64} (d : decode cc pc = .ok (.land, 1))  (k : J X E n0 s0 nL Q σ (pc + 1) L (vl (x &&& y) :: rest)) : J X E n0 s0 nL Q σ pc L (vl y :: vl x :: rest) :=
  fun H locs ls hl hR hS h1 h2 => lv_land B.1 B.2.1 d (k H locs ls hl hR hS h1 h2)
theorem r_ior (B : FX X E cc nL ret own nm n0 s0 fr lo) {x y : Int32} (d : decode cc pc = .ok (.ior, 1))  (k : J X E n0 s0 nL Q σ (pc + 1) L (vi (x ||| y) :: rest)) : J X E n0 s0 nL Q σ pc L (vi y :: vi x :: rest) :=
  fun H locs ls hl hR hS h1 h2 => lv_ior B.1 B.2.1 d (k H locs ls hl hR hS h1 h2)
theorem r_lor (B : FX X E cc nL ret own nm n0 s0 fr lo) {x y : Int64} (d : decode cc pc = .ok (.lor, 1))  (k : J X E n0 s0 nL Q σ (pc + 1) L (vl (x ||| y) :: rest)) : J X E n0 s0 nL Q σ pc L (vl y :: vl x :: rest) :=
  fun H locs ls hl hR hS h1 h2 => lv_lor B.1 B.2.1 d (k H locs ls hl hR hS h1 h2)
theorem r_ixor (B : FX X E cc nL ret own nm n0 s0 fr lo) {x y : Int32} (d : decode cc pc = .ok (.ixor, 1))  (k : J X E n0 s0 nL Q σ (pc + 1) L (vi (x ^^^ y) :: rest)) : J X E n0 s0 nL Q σ pc L (vi y :: vi x :: rest) :=
  fun H locs ls hl hR hS h1 h2 => lv_ixor B.1 B.2.1 d (k H locs ls hl hR hS h1 h2)
theorem r_lxor (B : FX X E cc nL ret own nm n0 s0 fr lo) {x y : Int64} (d : decode cc pc = .ok (.lxor, 1))  (k : J X E n0 s0 nL Q σ (pc + 1) L (vl (x ^^^ y) :: rest)) : J X E n0 s0 nL Q σ pc L (vl y :: vl x :: rest) :=
  fun H locs ls hl hR hS h1 h2 => lv_lxor B.1 B.2.1 d (k H locs ls hl hR hS h1 h2)
theorem r_idiv (B : FX X E cc nL ret own nm n0 s0 fr lo) {x y : Int32} (d : decode cc pc = .ok (.idiv, 1)) (hne : ¬ y = 0) (k : J X E n0 s0 nL Q σ (pc + 1) L (vi (x / y) :: rest)) : J X E n0 s0 nL Q σ pc L (vi y :: vi x :: rest) :=
  fun H locs ls hl hR hS h1 h2 => lv_idiv B.1 B.2.1 d hne (k H locs ls hl hR hS h1 h2)
theorem r_irem (B : FX X E cc nL ret own nm n0 s0 fr lo) {x y : Int32} (d : decode cc pc = .ok (.irem, 1)) (hne : ¬ y = 0) (k : J X E n0 s0 nL Q σ (pc + 1) L (vi (x - x / y * y) :: rest)) : J X E n0 s0 nL Q σ pc L (vi y :: vi x :: rest) :=
  fun H locs ls hl hR hS h1 h2 => lv_irem B.1 B.2.1 d hne (k H locs ls hl hR hS h1 h2)
theorem r_ldiv (B : FX X E cc nL ret own nm n0 s0 fr lo) {x y : Int64} (d : decode cc pc = .ok (.ldiv, 1)) (hne : ¬ y = 0) (k : J X E n0 s0 nL Q σ (pc + 1) L (vl (x / y) :: rest)) : J X E n0 s0 nL Q σ pc L (vl y :: vl x :: rest) :=
  fun H locs ls hl hR hS h1 h2 => lv_ldiv B.1 B.2.1 d hne (k H locs ls hl hR hS h1 h2)
theorem r_lrem (B : FX X E cc nL ret own nm n0 s0 fr lo) {x y : Int64} (d : decode cc pc = .ok (.lrem, 1)) (hne : ¬ y = 0) (k : J X E n0 s0 nL Q σ (pc + 1) L (vl (x - x / y * y) :: rest)) : J X E n0 s0 nL Q σ pc L (vl y :: vl x :: rest) :=
  fun H locs ls hl hR hS h1 h2 => lv_lrem B.1 B.2.1 d hne (k H locs ls hl hR hS h1 h2)
theorem r_ishl (B : FX X E cc nL ret own nm n0 s0 fr lo) {x y : Int32} (d : decode cc pc = .ok (.ishl, 1))  (k : J X E n0 s0 nL Q σ (pc + 1) L (vi (x <<< (y &&& 31)) :: rest)) : J X E n0 s0 nL Q σ pc L (vi y :: vi x :: rest) :=
  fun H locs ls hl hR hS h1 h2 => lv_ishl B.1 B.2.1 d (k H locs ls hl hR hS h1 h2)
theorem r_ishr (B : FX X E cc nL ret own nm n0 s0 fr lo) {x y : Int32} (d : decode cc pc = .ok (.ishr, 1))  (k : J X E n0 s0 nL Q σ (pc + 1) L (vi (x >>> (y &&& 31)) :: rest)) : J X E n0 s0 nL Q σ pc L (vi y :: vi x :: rest) :=
  fun H locs ls hl hR hS h1 h2 => lv_ishr B.1 B.2.1 d (k H locs ls hl hR hS h1 h2)
theorem r_iushr (B : FX X E cc nL ret own nm n0 s0 fr lo) {x y v : Int32} (d : decode cc pc = .ok (.iushr, 1)) (hv : (x.toUInt32 >>> (y.toUInt32 &&& Int32.toUInt32 31)).toInt32 = v) (k : J X E n0 s0 nL Q σ (pc + 1) L (vi v :: rest)) : J X E n0 s0 nL Q σ pc L (vi y :: vi x :: rest) :=
  fun H locs ls hl hR hS h1 h2 => lv_iushr B.1 B.2.1 d hv (k H locs ls hl hR hS h1 h2)
theorem r_ineg (B : FX X E cc nL ret own nm n0 s0 fr lo) {x : Int32} (d : decode cc pc = .ok (.ineg, 1))  (k : J X E n0 s0 nL Q σ (pc + 1) L (vi (-x) :: rest)) : J X E n0 s0 nL Q σ pc L (vi x :: rest) :=
  fun H locs ls hl hR hS h1 h2 => lv_ineg B.1 B.2.1 d (k H locs ls hl hR hS h1 h2)
theorem r_lneg (B : FX X E cc nL ret own nm n0 s0 fr lo) {x : Int64} (d : decode cc pc = .ok (.lneg, 1))  (k : J X E n0 s0 nL Q σ (pc + 1) L (vl (-x) :: rest)) : J X E n0 s0 nL Q σ pc L (vl x :: rest) :=
  fun H locs ls hl hR hS h1 h2 => lv_lneg B.1 B.2.1 d (k H locs ls hl hR hS h1 h2)
theorem r_i2l (B : FX X E cc nL ret own nm n0 s0 fr lo) {x : Int32} (d : decode cc pc = .ok (.i2l, 1))  (k : J X E n0 s0 nL Q σ (pc + 1) L (vl x.toInt64 :: rest)) : J X E n0 s0 nL Q σ pc L (vi x :: rest) :=
  fun H locs ls hl hR hS h1 h2 => lv_i2l B.1 B.2.1 d rfl (k H locs ls hl hR hS h1 h2)
theorem r_l2i (B : FX X E cc nL ret own nm n0 s0 fr lo) {x : Int64} (d : decode cc pc = .ok (.l2i, 1))  (k : J X E n0 s0 nL Q σ (pc + 1) L (vi x.toInt32 :: rest)) : J X E n0 s0 nL Q σ pc L (vl x :: rest) :=
  fun H locs ls hl hR hS h1 h2 => lv_l2i B.1 B.2.1 d rfl (k H locs ls hl hR hS h1 h2)
theorem r_i2b (B : FX X E cc nL ret own nm n0 s0 fr lo) {x : Int32} (d : decode cc pc = .ok (.i2b, 1))  (k : J X E n0 s0 nL Q σ (pc + 1) L (vi x.toInt8.toInt32 :: rest)) : J X E n0 s0 nL Q σ pc L (vi x :: rest) :=
  fun H locs ls hl hR hS h1 h2 => lv_i2b B.1 B.2.1 d rfl (k H locs ls hl hR hS h1 h2)
theorem r_i2c (B : FX X E cc nL ret own nm n0 s0 fr lo) {x : Int32} (d : decode cc pc = .ok (.i2c, 1))  (k : J X E n0 s0 nL Q σ (pc + 1) L (vi (x.toUInt32 % 65536).toInt32 :: rest)) : J X E n0 s0 nL Q σ pc L (vi x :: rest) :=
  fun H locs ls hl hR hS h1 h2 => lv_i2c B.1 B.2.1 d rfl (k H locs ls hl hR hS h1 h2)
theorem r_lcmp (B : FX X E cc nL ret own nm n0 s0 fr lo) {x y : Int64} (d : decode cc pc = .ok (.lcmp, 1))  (k : J X E n0 s0 nL Q σ (pc + 1) L (vi (lg_cmp x y) :: rest)) : J X E n0 s0 nL Q σ pc L (vl y :: vl x :: rest) :=
  fun H locs ls hl hR hS h1 h2 => W.lcmp B.1 B.2.1 d (k H locs ls hl hR hS h1 h2)
theorem r_dup (B : FX X E cc nL ret own nm n0 s0 fr lo) {t : TV} (d : decode cc pc = .ok (.dup, 1)) (ht : tcat t = 1) (k : J X E n0 s0 nL Q σ (pc + 1) L (t :: t :: rest)) : J X E n0 s0 nL Q σ pc L (t :: rest) :=
  fun H locs ls hl hR hS h1 h2 => lv_dup B.1 B.2.1 d ((toV_cat _ t).trans ht) (k H locs ls hl hR hS h1 h2)
theorem r_pop (B : FX X E cc nL ret own nm n0 s0 fr lo) {t : TV} (d : decode cc pc = .ok (.pop, 1)) (ht : tcat t = 1) (k : J X E n0 s0 nL Q σ (pc + 1) L rest) : J X E n0 s0 nL Q σ pc L (t :: rest) :=
  fun H locs ls hl hR hS h1 h2 => lv_pop B.1 B.2.1 d ((toV_cat _ t).trans ht) (k H locs ls hl hR hS h1 h2)
theorem r_dup_x1 (B : FX X E cc nL ret own nm n0 s0 fr lo) {t u : TV} (d : decode cc pc = .ok (.dup_x1, 1)) (ht : tcat t = 1) (hu : tcat u = 1) (k : J X E n0 s0 nL Q σ (pc + 1) L (t :: u :: t :: rest)) : J X E n0 s0 nL Q σ pc L (t :: u :: rest) :=
  fun H locs ls hl hR hS h1 h2 => lv_dup_x1 B.1 B.2.1 d ((toV_cat _ t).trans ht) ((toV_cat _ u).trans hu) (k H locs ls hl hR hS h1 h2)
theorem r_dup2 (B : FX X E cc nL ret own nm n0 s0 fr lo) {t u : TV} (d : decode cc pc = .ok (.dup2, 1)) (ht : tcat t = 1) (hu : tcat u = 1) (k : J X E n0 s0 nL Q σ (pc + 1) L (t :: u :: t :: u :: rest)) : J X E n0 s0 nL Q σ pc L (t :: u :: rest) :=
  fun H locs ls hl hR hS h1 h2 => lv_dup2_11 B.1 B.2.1 d ((toV_cat _ t).trans ht) ((toV_cat _ u).trans hu) (k H locs ls hl hR hS h1 h2)
theorem r_dup2L (B : FX X E cc nL ret own nm n0 s0 fr lo) {t : TV} (d : decode cc pc = .ok (.dup2, 1)) (ht : tcat t = 2) (k : J X E n0 s0 nL Q σ (pc + 1) L (t :: t :: rest)) : J X E n0 s0 nL Q σ pc L (t :: rest) :=
  fun H locs ls hl hR hS h1 h2 => lv_dup2_2 B.1 B.2.1 d ((toV_cat _ t).trans ht) (k H locs ls hl hR hS h1 h2)
theorem r_if_eq (B : FX X E cc nL ret own nm n0 s0 fr lo) {x : Int32} {off : Int} {tgt : Nat} (d : decode cc pc = .ok (.ifCond .eq off, 3)) (ht : (pc : Int) + off = (tgt : Int)) (kt : x = 0 → J X E n0 s0 nL Q σ tgt L rest) (kf : ¬ x = 0 → J X E n0 s0 nL Q σ (pc + 3) L rest) : J X E n0 s0 nL Q σ pc L (vi x :: rest) :=
  fun H locs ls hl hR hS h1 h2 => lv_if_eq B.1 B.2.1 d ht (fun c => kt c H locs ls hl hR hS h1 h2) (fun c => kf c H locs ls hl hR hS h1 h2)
theorem r_ic_eq (B : FX X E cc nL ret own nm n0 s0 fr lo) {x y : Int32} {off : Int} {tgt : Nat} (d : decode cc pc = .ok (.if_icmp .eq off, 3)) (ht : (pc : Int) + off = (tgt : Int)) (kt : x = y → J X E n0 s0 nL Q σ tgt L rest) (kf : ¬ x = y → J X E n0 s0 nL Q σ (pc + 3) L rest) : J X E n0 s0 nL Q σ pc L (vi y :: vi x :: rest) :=
  fun H locs ls hl hR hS h1 h2 => lv_icmp_eq B.1 B.2.1 d ht (fun c => kt c H locs ls hl hR hS h1 h2) (fun c => kf c H locs ls hl hR hS h1 h2)
theorem r_if_ne (B : FX X E cc nL ret own nm n0 s0 fr lo) {x : Int32} {off : Int} {tgt : Nat} (d : decode cc pc = .ok (.ifCond .ne off, 3)) (ht : (pc : Int) + off = (tgt : Int)) (kt : ¬ x = 0 → J X E n0 s0 nL Q σ tgt L rest) (kf : x = 0 → J X E n0 s0 nL Q σ (pc + 3) L rest) : J X E n0 s0 nL Q σ pc L (vi x :: rest) :=
  fun H locs ls hl hR hS h1 h2 => lv_if_ne B.1 B.2.1 d ht (fun c => kt c H locs ls hl hR hS h1 h2) (fun c => kf c H locs ls hl hR hS h1 h2)
theorem r_ic_ne (B : FX X E cc nL ret own nm n0 s0 fr lo) {x y : Int32} {off : Int} {tgt : Nat} (d : decode cc pc = .ok (.if_icmp .ne off, 3)) (ht : (pc : Int) + off = (tgt : Int)) (kt : ¬ x = y → J X E n0 s0 nL Q σ tgt L rest) (kf : x = y → J X E n0 s0 nL Q σ (pc + 3) L rest) : J X E n0 s0 nL Q σ pc L (vi y :: vi x :: rest) :=
  fun H locs ls hl hR hS h1 h2 => lv_icmp_ne B.1 B.2.1 d ht (fun c => kt c H locs ls hl hR hS h1 h2) (fun c => kf c H locs ls hl hR hS h1 h2)
theorem r_if_lt (B : FX X E cc nL ret own nm n0 s0 fr lo) {x : Int32} {off : Int} {tgt : Nat} (d : decode cc pc = .ok (.ifCond .lt off, 3)) (ht : (pc : Int) + off = (tgt : Int)) (kt : x < 0 → J X E n0 s0 nL Q σ tgt L rest) (kf : ¬ x < 0 → J X E n0 s0 nL Q σ (pc + 3) L rest) : J X E n0 s0 nL Q σ pc L (vi x :: rest) :=
  fun H locs ls hl hR hS h1 h2 => lv_if_lt B.1 B.2.1 d ht (fun c => kt c H locs ls hl hR hS h1 h2) (fun c => kf c H locs ls hl hR hS h1 h2)
theorem r_ic_lt (B : FX X E cc nL ret own nm n0 s0 fr lo) {x y : Int32} {off : Int} {tgt : Nat} (d : decode cc pc = .ok (.if_icmp .lt off, 3)) (ht : (pc : Int) + off = (tgt : Int)) (kt : x < y → J X E n0 s0 nL Q σ tgt L rest) (kf : ¬ x < y → J X E n0 s0 nL Q σ (pc + 3) L rest) : J X E n0 s0 nL Q σ pc L (vi y :: vi x :: rest) :=
  fun H locs ls hl hR hS h1 h2 => lv_icmp_lt B.1 B.2.1 d ht (fun c => kt c H locs ls hl hR hS h1 h2) (fun c => kf c H locs ls hl hR hS h1 h2)
theorem r_if_ge (B : FX X E cc nL ret own nm n0 s0 fr lo) {x : Int32} {off : Int} {tgt : Nat} (d : decode cc pc = .ok (.ifCond .ge off, 3)) (ht : (pc : Int) + off = (tgt : Int)) (kt : 0 ≤ x → J X E n0 s0 nL Q σ tgt L rest) (kf : ¬ 0 ≤ x → J X E n0 s0 nL Q σ (pc + 3) L rest) : J X E n0 s0 nL Q σ pc L (vi x :: rest) :=
  fun H locs ls hl hR hS h1 h2 => lv_if_ge B.1 B.2.1 d ht (fun c => kt c H locs ls hl hR hS h1 h2) (fun c => kf c H locs ls hl hR hS h1 h2)
theorem r_ic_ge (B : FX X E cc nL ret own nm n0 s0 fr lo) {x y : Int32} {off : Int} {tgt : Nat} (d : decode cc pc = .ok (.if_icmp .ge off, 3)) (ht : (pc : Int) + off = (tgt : Int)) (kt : y ≤ x → J X E n0 s0 nL Q σ tgt L rest) (kf : ¬ y ≤ x → J X E n0 s0 nL Q σ (pc + 3) L rest) : J X E n0 s0 nL Q σ pc L (vi y :: vi x :: rest) :=
  fun H locs ls hl hR hS h1 h2 => lv_icmp_ge B.1 B.2.1 d ht (fun c => kt c H locs ls hl hR hS h1 h2) (fun c => kf c H locs ls hl hR hS h1 h2)
theorem r_if_gt (B : FX X E cc nL ret own nm n0 s0 fr lo) {x : Int32} {off : Int} {tgt : Nat} (d : decode cc pc = .ok (.ifCond .gt off, 3)) (ht : (pc : Int) + off = (tgt : Int)) (kt : 0 < x → J X E n0 s0 nL Q σ tgt L rest) (kf : ¬ 0 < x → J X E n0 s0 nL Q σ (pc + 3) L rest) : J X E n0 s0 nL Q σ pc L (vi x :: rest) :=
  fun H locs ls hl hR hS h1 h2 => lv_if_gt B.1 B.2.1 d ht (fun c => kt c H locs ls hl hR hS h1 h2) (fun c => kf c H locs ls hl hR hS h1 h2)
theorem r_ic_gt (B : FX X E cc nL ret own nm n0 s0 fr lo) {x y : Int32} {off : Int} {tgt : Nat} (d : decode cc pc = .ok (.if_icmp .gt off, 3)) (ht : (pc : Int) + off = (tgt : Int)) (kt : y < x → J X E n0 s0 nL Q σ tgt L rest) (kf : ¬ y < x → J X E n0 s0 nL Q σ (pc + 3) L rest) : J X E n0 s0 nL Q σ pc L (vi y :: vi x :: rest) :=
  fun H locs ls hl hR hS h1 h2 => lv_icmp_gt B.1 B.2.1 d ht (fun c => kt c H locs ls hl hR hS h1 h2) (fun c => kf c H locs ls hl hR hS h1 h2)
theorem r_if_le (B : FX X E cc nL ret own nm n0 s0 fr lo) {x : Int32} {off : Int} {tgt : Nat} (d : decode cc pc = .ok (.ifCond .le off, 3)) (ht : (pc : Int) + off = (tgt : Int)) (kt : x ≤ 0 → J X E n0 s0 nL Q σ tgt L rest) (kf : ¬ x ≤ 0 → J X E n0 s0 nL Q σ (pc + 3) L rest) : J X E n0 s0 nL Q σ pc L (vi x :: rest) :=
  fun H locs ls hl hR hS h1 h2 => lv_if_le B.1 B.2.1 d ht (fun c => kt c H locs ls hl hR hS h1 h2) (fun c => kf c H locs ls hl hR hS h1 h2)
theorem r_ic_le (B : FX X E cc nL ret own nm n0 s0 fr lo) {x y : Int32} {off : Int} {tgt : Nat} (d : decode cc pc = .ok (.if_icmp .le off, 3)) (ht : (pc : Int) + off = (tgt : Int)) (kt : x ≤ y → J X E n0 s0 nL Q σ tgt L rest) (kf : ¬ x ≤ y → J X E n0 s0 nL Q σ (pc + 3) L rest) : J X E n0 s0 nL Q σ pc L (vi y :: vi x :: rest) :=
  fun H locs ls hl hR hS h1 h2 => lv_icmp_le B.1 B.2.1 d ht (fun c => kt c H locs ls hl hR hS h1 h2) (fun c => kf c H locs ls hl hR hS h1 h2)
theorem r_goto (B : FX X E cc nL ret own nm n0 s0 fr lo) {off : Int} {tgt : Nat} {st : List TV} (d : decode cc pc = .ok (.goto off, 3)) (ht : (pc : Int) + off = (tgt : Int)) (k : J X E n0 s0 nL Q σ tgt L st) : J X E n0 s0 nL Q σ pc L st :=
  fun H locs ls hl hR hS h1 h2 => lv_goto B.1 B.2.1 d ht (k H locs ls hl hR hS h1 h2)
theorem r_tin (B : FX X E cc nL ret own nm n0 s0 fr lo) {x v : Int32} {dflt a b : Int} {offs : Array Int} {len : Nat} {off : Int} {tgt : Nat} (d : decode cc pc = .ok (.tableswitch dflt a b offs, len)) (e : x = v) (h1 : ¬ v.toInt < a) (h2 : ¬ b < v.toInt) (ho : offs[(v.toInt - a).toNat]? = some off) (ht : (pc : Int) + off = (tgt : Int)) (k : J X E n0 s0 nL Q σ tgt L rest) : J X E n0 s0 nL Q σ pc L (vi x :: rest) := by
  subst e
  exact fun H locs ls hl hR hS g1 g2 => lv_tableIn B.1 B.2.1 d h1 h2 ho ht (k H locs ls hl hR hS g1 g2)
theorem r_tout (B : FX X E cc nL ret own nm n0 s0 fr lo) {x : Int32} {dflt a b : Int} {offs : Array Int} {len : Nat} {tgt : Nat} (d : decode cc pc = .ok (.tableswitch dflt a b offs, len)) (h : x.toInt < a ∨ b < x.toInt) (ht : (pc : Int) + dflt = (tgt : Int)) (k : J X E n0 s0 nL Q σ tgt L rest) : J X E n0 s0 nL Q σ pc L (vi x :: rest) :=
  fun H locs ls hl hR hS h1 h2 => lv_tableOut B.1 B.2.1 d h ht (k H locs ls hl hR hS h1 h2)
theorem r_ifnull (B : FX X E cc nL ret own nm n0 s0 fr lo) {x : Option Nat} {off : Int} {tgt : Nat} (d : decode cc pc = .ok (.ifnull off, 3)) (ht : (pc : Int) + off = (tgt : Int)) (kt : x = none → J X E n0 s0 nL Q σ tgt L rest) (kf : ¬ x = none → J X E n0 s0 nL Q σ (pc + 3) L rest) : J X E n0 s0 nL Q σ pc L (vr x :: rest) := by
  intro H locs ls hl hR hS h1 h2
  cases x with
  | none => exact lv_ifnullN B.1 B.2.1 d ht (kt rfl H locs ls hl hR hS h1 h2)
  | some a => exact lv_ifnull B.1 B.2.1 d (kf (fun h => by cases h) H locs ls hl hR hS h1 h2)
theorem r_ifnonnull (B : FX X E cc nL ret own nm n0 s0 fr lo) {x : Option Nat} {off : Int} {tgt : Nat} (d : decode cc pc = .ok (.ifnonnull off, 3)) (ht : (pc : Int) + off = (tgt : Int)) (kt : ¬ x = none → J X E n0 s0 nL Q σ tgt L rest) (kf : x = none → J X E n0 s0 nL Q σ (pc + 3) L rest) : J X E n0 s0 nL Q σ pc L (vr x :: rest) := by
  intro H locs ls hl hR hS h1 h2
  cases x with
  | none => exact lv_ifnonnullN B.1 B.2.1 d (kf rfl H locs ls hl hR hS h1 h2)
  | some a => exact lv_ifnonnull B.1 B.2.1 d ht (kt (fun h => by cases h) H locs ls hl hR hS h1 h2)
end JR

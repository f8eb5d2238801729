/-! ===== INFRA: the abstract state (typed heap), its relation to the machine's heap, the judgement J ===== -/
set_option maxRecDepth 100000
abbrev Kd : Type := Nat × Nat
/-- kinds (class number or 100 + array type, length), ints, longs, references, next address, slots used, limits of both -/
abbrev St : Type := (Nat → Kd) × (Nat → Nat → Int32) × (Nat → Nat → Int64) × (Nat → Nat → Option Nat) × Nat × Nat × Nat × Nat
def sk (σ : St) : Nat → Kd := σ.1
def si (σ : St) : Nat → Nat → Int32 := σ.2.1
def sl (σ : St) : Nat → Nat → Int64 := σ.2.2.1
def sr (σ : St) : Nat → Nat → Option Nat := σ.2.2.2.1
def sn (σ : St) : Nat := σ.2.2.2.2.1
def ss (σ : St) : Nat := σ.2.2.2.2.2.1
def smx (σ : St) : Nat := σ.2.2.2.2.2.2.1
def sms (σ : St) : Nat := σ.2.2.2.2.2.2.2
def up2 {α : Type} (f : Nat → Nat → α) (a k : Nat) (v : α) : Nat → Nat → α := fun b j => if b = a then (if j = k then v else f b j) else f b j
def setI (σ : St) (a k : Nat) (v : Int32) : St := (sk σ, up2 (si σ) a k v, sl σ, sr σ, sn σ, ss σ, smx σ, sms σ)
def setL (σ : St) (a k : Nat) (v : Int64) : St := (sk σ, si σ, up2 (sl σ) a k v, sr σ, sn σ, ss σ, smx σ, sms σ)
def setR (σ : St) (a k : Nat) (v : Option Nat) : St := (sk σ, si σ, sl σ, up2 (sr σ) a k v, sn σ, ss σ, smx σ, sms σ)
/-- a new cell of the kind kd, with n slots -/
def newO (σ : St) (kd : Kd) (n : Nat) : St := (fun b => if b = sn σ then kd else sk σ b, fun b => if b = sn σ then fun _ => 0 else si σ b, fun b => if b = sn σ then fun _ => 0 else sl σ b, fun b => if b = sn σ then fun _ => none else sr σ b, sn σ + 1, ss σ + n, smx σ, sms σ)
def cpyI (σ : St) (a i b j n : Nat) : St := (sk σ, fun x => if x = b then va_cpy (si σ a) (si σ b) i j n else si σ x, sl σ, sr σ, sn σ, ss σ, smx σ, sms σ)
def cpyR (σ : St) (a i b j n : Nat) : St := (sk σ, si σ, sl σ, fun x => if x = b then va_cpy (sr σ a) (sr σ b) i j n else sr σ x, sn σ, ss σ, smx σ, sms σ)
abbrev TV : Type := Int32 ⊕ Int64 ⊕ Option Nat
abbrev vi (x : Int32) : TV := .inl x
abbrev vl (x : Int64) : TV := .inr (.inl x)
abbrev vr (x : Option Nat) : TV := .inr (.inr x)
def toV (ad : Nat → Nat) : TV → Value
  | .inl x => .int x
  | .inr (.inl x) => .long x
  | .inr (.inr o) => va_rf (o.map ad)
def tcat : TV → Nat
  | .inl _ => 1
  | .inr (.inl _) => 2
  | .inr (.inr _) => 1
theorem rf_cat (o : Option Nat) : (va_rf o).category = 1 := by cases o <;> rfl
theorem toV_cat (ad : Nat → Nat) (t : TV) : (toV ad t).category = tcat t := by
  rcases t with x | x | x
  · rfl
  · rfl
  · exact rf_cat _
theorem toV_sum (ad : Nat → Nat) (l : List TV) : ((l.map (toV ad)).map fun v => v.category).sum = (l.map tcat).sum := by
  rw [List.map_map]
  congr 1
  exact List.map_congr_left fun t _ => toV_cat ad t
abbrev LV : Type := List (Nat × TV)
def lmp (ad : Nat → Nat) (L : LV) : List (Nat × Value) := L.map fun q => (q.1, toV ad q.2)
theorem lmp_at {ad : Nat → Nat} {L : LV} {k i : Nat} {t : TV} (h : L[k]? = some (i, t)) : (lmp ad L)[k]? = some (i, toV ad t) := by
  unfold lmp
  rw [List.getElem?_map, h]
  rfl
/-- the value stored at i, in order -/
def lins (i : Nat) (v : TV) : LV → LV
  | [] => [(i, v)]
  | q :: r => bif Nat.blt i q.1 then (i, v) :: q :: r else bif Nat.beq q.1 i then (i, v) :: r else q :: lins i v r
/-- nothing that a store at i spoils -/
def lok (i : Nat) (v : TV) (L : LV) : Bool := L.all fun q => !(Nat.beq (q.1 + 1) i && Nat.beq (tcat q.2) 2) && !(Nat.beq (tcat v) 2 && Nat.beq q.1 (i + 1))
/-- in order, each place at most once -/
def lso : LV → Bool
  | [] => true
  | q :: r => r.all (fun x => Nat.blt q.1 x.1) && lso r
theorem blt_t {a b : Nat} : Nat.blt a b = true ↔ a < b := by
  unfold Nat.blt
  rw [Nat.ble_eq]
  exact Iff.rfl
theorem lins_mem (i : Nat) (v : TV) : ∀ (L : LV), lso L = true → ∀ q ∈ lins i v L, q = (i, v) ∨ (q ∈ L ∧ q.1 ≠ i)
  | [], _, q, h => Or.inl (List.mem_singleton.mp h)
  | a :: r, hs, q, h => by
    have hs' := hs
    unfold lso at hs'
    rw [Bool.and_eq_true] at hs'
    obtain ⟨h1, h2⟩ := hs'
    have h1 : ∀ x ∈ r, a.1 < x.1 := fun x hx => by
      exact blt_t.mp (List.all_eq_true.mp h1 x hx)
    unfold lins at h
    cases hb : Nat.blt i a.1 with
    | true =>
      rw [hb, cond_true] at h
      have hb : i < a.1 := blt_t.mp hb
      rcases List.mem_cons.mp h with e | e
      · exact Or.inl e
      · refine Or.inr ⟨e, ?_⟩
        rcases List.mem_cons.mp e with e | e
        · subst e; omega
        · have := h1 q e; omega
    | false =>
      rw [hb, cond_false] at h
      have hb : ¬ i < a.1 := by
        intro z
        have : Nat.blt i a.1 = true := blt_t.mpr z
        rw [this] at hb
        cases hb
      cases he : Nat.beq a.1 i with
      | true =>
        rw [he, cond_true] at h
        have he : a.1 = i := Nat.eq_of_beq_eq_true he
        rcases List.mem_cons.mp h with e | e
        · exact Or.inl e
        · exact Or.inr ⟨List.mem_cons_of_mem _ e, by have := h1 q e; omega⟩
      | false =>
        rw [he, cond_false] at h
        have he : a.1 ≠ i := Nat.ne_of_beq_eq_false he
        rcases List.mem_cons.mp h with e | e
        · subst e
          exact Or.inr ⟨List.mem_cons_self, he⟩
        · rcases lins_mem i v r h2 q e with e | ⟨e, z⟩
          · exact Or.inl e
          · exact Or.inr ⟨List.mem_cons_of_mem _ e, z⟩
theorem lok_1 {i : Nat} {v : TV} {L : LV} (h : lok i v L = true) {q : Nat × TV} (hq : q ∈ L) : ¬ (q.1 + 1 = i ∧ tcat q.2 = 2) ∧ ¬ (tcat v = 2 ∧ q.1 = i + 1) := by
  have := List.all_eq_true.mp h q hq
  rw [Bool.and_eq_true, Bool.not_eq_true', Bool.not_eq_true', Bool.and_eq_false_iff, Bool.and_eq_false_iff] at this
  refine ⟨fun ⟨a, b⟩ => ?_, fun ⟨a, b⟩ => ?_⟩
  · rcases this.1 with z | z
    · exact Nat.ne_of_beq_eq_false z a
    · exact Nat.ne_of_beq_eq_false z b
  · rcases this.2 with z | z
    · exact Nat.ne_of_beq_eq_false z a
    · exact Nat.ne_of_beq_eq_false z b
theorem lins_has1 {ad : Nat → Nat} {ls : Array Slot} {nL i : Nat} {v : TV} {L L' : LV} (hs : lso L = true) (ho : lok i v L = true) (hL : lins i v L = L') (h : lv_has ls nL ((i, toV ad v) :: (lmp ad L).filter (fun q => !(q.1 == i) && !(q.1 + 1 == i && q.2.category == 2)))) : lv_has ls nL (lmp ad L') := by
  subst hL
  refine ⟨h.1, h.2.1, fun q hq => ?_⟩
  obtain ⟨x, hx, rfl⟩ := List.mem_map.mp hq
  rcases lins_mem i v L hs x hx with e | ⟨e, z⟩
  · subst e
    exact h.2.2 _ List.mem_cons_self
  · refine h.2.2 _ (List.mem_cons_of_mem _ (List.mem_filter.mpr ⟨List.mem_map.mpr ⟨x, e, rfl⟩, ?_⟩))
    have := (lok_1 ho e).1
    rw [← toV_cat ad x.2] at this
    simp only [Bool.and_eq_true, Bool.not_eq_true', beq_eq_false_iff_ne, Bool.and_eq_false_iff, ne_eq]
    refine ⟨z, ?_⟩
    by_cases c : x.1 + 1 = i
    · exact Or.inr fun d => this ⟨c, d⟩
    · exact Or.inl c
theorem lins_has2 {ad : Nat → Nat} {ls : Array Slot} {nL i : Nat} {v : TV} {L L' : LV} (hc : tcat v = 2) (hs : lso L = true) (ho : lok i v L = true) (hL : lins i v L = L') (h : lv_has ls nL ((i, toV ad v) :: (lmp ad L).filter (fun q => !(q.1 == i) && (!(q.1 == i + 1) && !(q.1 + 1 == i && q.2.category == 2))))) : lv_has ls nL (lmp ad L') := by
  subst hL
  refine ⟨h.1, h.2.1, fun q hq => ?_⟩
  obtain ⟨x, hx, rfl⟩ := List.mem_map.mp hq
  rcases lins_mem i v L hs x hx with e | ⟨e, z⟩
  · subst e
    exact h.2.2 _ List.mem_cons_self
  · refine h.2.2 _ (List.mem_cons_of_mem _ (List.mem_filter.mpr ⟨List.mem_map.mpr ⟨x, e, rfl⟩, ?_⟩))
    have := (lok_1 ho e).1
    have h2 := (lok_1 ho e).2
    rw [← toV_cat ad x.2] at this
    simp only [Bool.and_eq_true, Bool.not_eq_true', beq_eq_false_iff_ne, Bool.and_eq_false_iff, ne_eq]
    refine ⟨z, fun d => h2 ⟨hc, d⟩, ?_⟩
    by_cases c : x.1 + 1 = i
    · exact Or.inr fun d => this ⟨c, d⟩
    · exact Or.inl c
def lpk (L : LV) (ks : List Nat) : LV := ks.filterMap fun k => L[k]?
theorem lpk_has {ad : Nat → Nat} {ls : Array Slot} {nL : Nat} {L L' : LV} (ks : List Nat) (hL : lpk L ks = L') (h : lv_has ls nL (lmp ad L)) : lv_has ls nL (lmp ad L') := by
  subst hL
  refine ⟨h.1, h.2.1, fun q hq => ?_⟩
  obtain ⟨x, hx, rfl⟩ := List.mem_map.mp hq
  obtain ⟨k, -, hk⟩ := List.mem_filterMap.mp hx
  exact h.2.2 _ (List.mem_map.mpr ⟨x, List.mem_of_getElem? hk, rfl⟩)
def larg : Nat → List TV → LV
  | _, [] => []
  | i, t :: r => (i, t) :: larg (i + tcat t) r
theorem larg_eq (ad : Nat → Nat) : ∀ (l : List TV) (i : Nat), lmp ad (larg i l) = lv_args i (l.map (toV ad))
  | [], _ => rfl
  | t :: r, i => by
    have h1 := larg_eq ad r
    simp only [larg, lmp, List.map_cons, lv_args] at h1 ⊢
    rw [h1, ← toV_cat ad]
    first | rfl | (rcases lv_cat (toV ad t) with c | c <;> simp [c])
/-! the classes -/
abbrev CL : List vw_C := [(RX0, TX0, 28), (RX1, TX1, 11), (RX2, TX2, 2), (RX3, TX3, 6), (RX4, TX4, 5), (RX5, TX5, 67), (RX7, TX7, 8), (RX8, TX8, 7), (RX9, TX9, 3), (RX11, TX11, 1), (RX12, TX12, 1), (RX13, TX13, 3), (RX15, TX15, 3), (RX16, TX16, 1), (RX17, TX17, 2), (RX18, TX18, 5), (RX19, TX19, 1), (RX20, TX20, 8), (RJ2, TJ2, 3)]
def cN (c : Nat) : Nat := ([28, 11, 2, 6, 5, 67, 8, 7, 3, 1, 1, 3, 3, 1, 2, 5, 1, 8, 3] : List Nat).getD c 0
def cty (c : Nat) : Nat → FieldType := ([tyX0, tyX1, tyX2, tyX3, tyX4, tyX5, tyX7, tyX8, tyX9, tyX11, tyX12, tyX13, tyX15, tyX16, tyX17, tyX18, tyX19, tyX20, tyJ2] : List (Nat → FieldType)).getD c (fun _ => .int)
def slv (ty : FieldType) (i : Int32) (l : Int64) (r : Option Nat) : Value := match ty with
  | .long => .long l
  | .object _ => va_rf r
  | .array _ => va_rf r
  | _ => .int i
/-- the environment: classes' numbers, array classes' numbers, addresses, heap size, cells of its own, skeleton, constants, limits, where new cells begin -/
abbrev EV : Type := va_G × (Nat → ClassId) × (Nat → Nat) × (Nat → Nat) × (Nat → Prop) × (St → Prop) × (Nat → Nat) × Nat × Nat × Nat
def eD (E : EV) : va_G := E.1
def eT (E : EV) : Nat → ClassId := E.2.1
def eAd (E : EV) : Nat → Nat := E.2.2.1
def eSz (E : EV) : Nat → Nat := E.2.2.2.1
def eA (E : EV) : Nat → Prop := E.2.2.2.2.1
def eSk (E : EV) : St → Prop := E.2.2.2.2.2.1
def eKc (E : EV) : Nat → Nat := E.2.2.2.2.2.2.1
def eMx (E : EV) : Nat := E.2.2.2.2.2.2.2.1
def eMs (E : EV) : Nat := E.2.2.2.2.2.2.2.2.1
def eLo (E : EV) : Nat := E.2.2.2.2.2.2.2.2.2
def noSk (E : EV) : EV := (eD E, eT E, eAd E, eSz E, eA E, fun _ => True, eKc E, eMx E, eMs E, eLo E)
/-- array types by number -/
def aty : Nat → FieldType
  | 0 => .int
  | 1 => .long
  | 2 => .byte
  | 3 => .boolean
  | 4 => .object "java/lang/Object"
  | 5 => .object "RoseThrow$State"
  | _ => .object "RoseThrow$Flight"
def tysE (E : EV) : List (ClassId × FieldType) := [(eT E 0, .int), (eT E 1, .long), (eT E 2, .byte), (eT E 3, .boolean), (eT E 4, .object "java/lang/Object"), (eT E 5, .object "RoseThrow$State"), (eT E 6, .object "RoseThrow$Flight")]
theorem tysE_at (E : EV) {t : Nat} (h : t < 7) : (tysE E)[t]? = some (eT E t, aty t) := by
  have : t = 0 ∨ t = 1 ∨ t = 2 ∨ t = 3 ∨ t = 4 ∨ t = 5 ∨ t = 6 := by omega
  rcases this with rfl | rfl | rfl | rfl | rfl | rfl | rfl <;> rfl
def apay (E : EV) (t : Nat) (i : Nat → Int32) (l : Nat → Int64) (r : Nat → Option Nat) (n : Nat) : vp_A := match t with
  | 0 => (n, .inl i)
  | 1 => (n, .inr (.inl l))
  | 2 => (n, .inl i)
  | 3 => (n, .inl i)
  | _ => (n, .inr (.inr (.inr (.inr fun j => (r j).map (eAd E)))))
def flds (E : EV) (c : Nat) (i : Nat → Int32) (l : Nat → Int64) (r : Nat → Option Nat) : List Value := (List.range (cN c)).map fun j => slv (cty c j) (i j) (l j) ((r j).map (eAd E))
def cof (E : EV) (σ : St) (a : Nat) : va_E := if 100 ≤ (sk σ a).1 then .inl (eT E ((sk σ a).1 - 100), apay E ((sk σ a).1 - 100) (si σ a) (sl σ a) (sr σ a) (sk σ a).2) else .inr ((sk σ a).1, flds E (sk σ a).1 (si σ a) (sl σ a) (sr σ a))
def wof (E : EV) (σ : St) : va_W := (List.range (sn σ)).map fun a => (eAd E a, cof E σ a)
def Rel (E : EV) (σ : St) (H : Heap) : Prop := va_P (eD E) CL (wof E σ) H ∧ H.size = eSz E (sn σ) ∧ (eLo E ≤ sn σ ∧ sn σ ≤ eMx E ∧ ss σ ≤ eMs E) ∧ (smx σ = eMx E ∧ sms σ = eMs E) ∧ (∀ a, sn σ ≤ a → (sk σ a).1 = 99) ∧ eSk E σ
def isNest : Cond → Bool
  | .fieldLinkNest _ _ _ _ _ _ => true
  | .methodLinkNest _ _ _ _ => true
  | .castable _ _ => true
  | .declares _ => true
  | _ => false
def lw_nest : List Cond := lw_tbl.filter isNest
theorem lw_n {w : Cond} (h : w ∈ lw_tbl) (g : isNest w = true) : w ∈ lw_nest := List.mem_filter.mpr ⟨h, g⟩
def KS : Nat := 1000000000
/-- statics that nobody writes -/
def kst : List (String × String × String × TV) := [("java/lang/Throwable", "UNASSIGNED_STACK", "[Ljava/lang/StackTraceElement;", vr (some 1000000900)), ("java/lang/Throwable", "SUPPRESSED_SENTINEL", "Ljava/util/List;", vr (some 1000000901)), ("java/util/ArrayList", "EMPTY_ELEMENTDATA", "[Ljava/lang/Object;", vr (some 1000000902)), ("java/util/ArrayList", "DEFAULTCAPACITY_EMPTY_ELEMENTDATA", "[Ljava/lang/Object;", vr (some 1000000903)), ("jdk/internal/util/Preconditions", "SIOOBE_FORMATTER", "Ljava/util/function/BiFunction;", vr (some 1000000904)), ("java/lang/String", "COMPACT_STRINGS", "Z", vi 1)]
/-- texts: class, pool index, text, number -/
def kstr : List (String × Nat × String × Nat) := [("RoseThrow$OrderReader", 84, "catchers", 0), ("RoseThrow$OrderReader", 89, "done", 1), ("RoseThrow$OrderReader", 91, "rushed", 2), ("RoseThrow$OrderReader", 93, "cell", 3), ("RoseThrow$OrderReader", 94, "belief", 4), ("RoseThrow$OrderReader", 20, "go", 5), ("RoseThrow$OrderReader", 26, "believe", 6), ("RoseThrow$OrderReader", 28, "rush", 7), ("RoseThrow$OrderReader", 49, "at", 8), ("RoseThrow$OrderReader", 58, "times", 9), ("RoseThrow$OrderReader", 70, "if", 10), ("RoseThrow$Reader", 152, "[", 11), ("RoseThrow$Reader", 154, "]", 12), ("RoseThrow$Reader", 143, "*", 13), ("RoseThrow$Reader", 145, "/", 14), ("RoseThrow$Reader", 147, "%", 15), ("RoseThrow$Reader", 133, "+", 16), ("RoseThrow$Reader", 135, "-", 17), ("RoseThrow$Reader", 91, "not", 18), ("RoseThrow$Reader", 101, "(", 19), ("RoseThrow$Reader", 109, ")", 20), ("RoseThrow$Reader", 119, "<", 21), ("RoseThrow$Reader", 121, ">", 22), ("RoseThrow$Reader", 123, "=", 23), ("RoseThrow$Reader", 86, "and", 24), ("RoseThrow$Reader", 66, "or", 25), ("RoseThrow$Reader", 57, ";", 26), ("RoseThrow$LawReader", 20, "slips", 27), ("RoseThrow$LawReader", 26, "grips", 28), ("RoseThrow$LawReader", 28, "weds", 29), ("RoseThrow$LawReader", 30, "bars", 30), ("RoseThrow$LawReader", 67, "force", 31), ("RoseThrow$LawReader", 72, "side", 32), ("RoseThrow$LawReader", 74, "high", 33), ("RoseThrow$LawReader", 76, "word", 34), ("RoseThrow$LawReader", 78, "dx", 35), ("RoseThrow$LawReader", 80, "dy", 36), ("RoseThrow$LawReader", 82, "catcher", 37), ("RoseThrow$LawReader", 84, "tall", 38), ("RoseThrow$LawReader", 86, "want", 39), ("RoseThrow$LawReader", 88, "far", 40), ("RoseThrow$LawReader", 90, "caught", 41), ("RoseThrow$LawReader", 92, "x", 42), ("RoseThrow$LawReader", 94, "y", 43), ("RoseThrow$LawReader", 96, "mood", 44), ("RoseThrow$LawReader", 50, "if", 10)]
def slen : List Nat := [8, 4, 6, 4, 6, 2, 7, 4, 2, 5, 2, 1, 1, 1, 1, 1, 1, 1, 3, 1, 1, 1, 1, 1, 3, 2, 1, 5, 5, 4, 4, 5, 4, 4, 4, 2, 2, 7, 4, 4, 3, 6, 1, 1, 4]
def sbyt : List (List Int32) := [[99, 97, 116, 99, 104, 101, 114, 115], [100, 111, 110, 101], [114, 117, 115, 104, 101, 100], [99, 101, 108, 108], [98, 101, 108, 105, 101, 102], [103, 111], [98, 101, 108, 105, 101, 118, 101], [114, 117, 115, 104], [97, 116], [116, 105, 109, 101, 115], [105, 102], [91], [93], [42], [47], [37], [43], [45], [110, 111, 116], [40], [41], [60], [62], [61], [97, 110, 100], [111, 114], [59], [115, 108, 105, 112, 115], [103, 114, 105, 112, 115], [119, 101, 100, 115], [98, 97, 114, 115], [102, 111, 114, 99, 101], [115, 105, 100, 101], [104, 105, 103, 104], [119, 111, 114, 100], [100, 120], [100, 121], [99, 97, 116, 99, 104, 101, 114], [116, 97, 108, 108], [119, 97, 110, 116], [102, 97, 114], [99, 97, 117, 103, 104, 116], [120], [121], [109, 111, 111, 100]]
def VK (E : EV) (U : State) : Prop := va_K (eD E) CL (tysE E) U ∧ (∀ w ∈ lw_nest, va_Nw w U) ∧ (va_AO "java/lang/Object" U ∧ va_AO "RoseThrow$State" U ∧ va_AO "RoseThrow$Flight" U) ∧ (∀ q ∈ kstr, vk_R q.1 q.2.1 q.2.2.1 (eAd E (1000000000 + q.2.2.2)) U) ∧ va_Mi "[Ljava/lang/Object;" (eAd E 1000000905) U ∧ va_Fw "java/util/ArrayList" ⟨"java/util/Collection", "toArray", "()[Ljava/lang/Object;"⟩ ⟨"java/util/ArrayList", "toArray", "()[Ljava/lang/Object;"⟩ U
def KH (E : EV) (U : State) (H : Heap) : Prop := (∀ q ∈ kst, va_Z q.1 q.2.1 q.2.2.1 (toV (eAd E) q.2.2.2) (eA E) U H) ∧ ∀ i, i < 45 → va_O "java/lang/String" (eAd E (1000000000 + i)) (eA E) U H ∧ va_OF "java/lang/String" "coder" "B" (.int 0) (eAd E (1000000000 + i)) (eA E) U H ∧ va_OF "java/lang/String" "value" "[B" (.ref (eAd E (1000000100 + i))) (eAd E (1000000000 + i)) (eA E) U H ∧ va_T .byte (eAd E (1000000100 + i)) (slen.getD i 0) (fun j => .int ((sbyt.getD i []).getD j 0)) (eA E) U H
def KB (E : EV) (U : State) : Prop := VK E U ∧ KH E U U.heap
theorem VK.warm {E : EV} {s U : State} (hW : s.WarmedH U.vm) (h : VK E s) : VK E U := by
  obtain ⟨h1, h2, ⟨h3, h4, h5⟩, h8, h9, h10⟩ := h
  refine ⟨va_K.moved hW.alike h1, fun w hw => ?_, ⟨va_AO.moved hW.alike h3, va_AO.moved hW.alike h4, va_AO.moved hW.alike h5⟩, fun q hq => vk_R.warm hW (h8 q hq), va_Mi.moved hW.alike h9, va_Fw.moved (by decide) hW.alike h10⟩
  have h6 := h2 w hw
  have h7 := (List.mem_filter.mp hw).2
  cases w <;> first | exact va_Nw.warmF hW h6 | exact va_Nw.warmM hW h6 | exact va_Nw.warmC hW h6 | exact va_Nw.warmD hW h6 | exact Bool.noConfusion h7
theorem KH.go {E : EV} {s U : State} {H H1 : Heap} (ha : s.vm.Alike U.vm) (hq : ∀ a : Nat, a < H.size → ¬ eA E a → H1[a]? = H[a]?) (h : KH E s H) : KH E U H1 :=
  ⟨fun q h1 => va_Z.moved ha ((h.1 q h1).kept hq), fun i hi => ⟨va_O.moved ha ((h.2 i hi).1.kept hq), va_OF.moved ha ((h.2 i hi).2.1.kept hq), va_OF.moved ha ((h.2 i hi).2.2.1.kept hq), va_T.moved ha ((h.2 i hi).2.2.2.kept hq)⟩⟩
theorem KB.go {E : EV} {s U : State} {H : Heap} {locs : List Loc} (hW : s.WarmedH U.vm) (hU : U.heap = H) (hS : va_S (eA E) s.heap H locs) (h : KB E s) : KB E U :=
  ⟨h.1.warm hW, KH.go hW.alike (by rw [hU]; exact hS.2.1) h.2⟩
theorem KB.same {E : EV} {u U : State} (hv : u.vm = U.vm) (hh : u.heap = U.heap) (h : KB E u) : KB E U := by
  obtain ⟨⟨h1, h2, ⟨h3, h4, h5⟩, h8, h9, h10⟩, hk⟩ := h
  have ha : u.vm.Alike U.vm := by rw [hv]; exact Vm.Alike.refl _
  refine ⟨⟨va_K.moved ha h1, fun w hw => ?_, ⟨va_AO.moved ha h3, va_AO.moved ha h4, va_AO.moved ha h5⟩, fun q hq => vk_R.same hv.symm (h8 q hq), va_Mi.moved ha h9, va_Fw.moved (by decide) ha h10⟩, KH.go ha (fun _ _ _ => by rw [hh]) hk⟩
  have h7 := (List.mem_filter.mp hw).2
  exact va_Nw.same (by cases w <;> first | rfl | exact Bool.noConfusion h7) hv (h2 w hw)
/-- what an environment must be -/
def GE (E : EV) : Prop := (∀ a b, a < eMx E → b < eMx E → eAd E a = eAd E b → a = b) ∧ (∀ a, a < eMx E → eA E (eAd E a)) ∧ (∀ σ σ', sk σ' = sk σ → sr σ' = sr σ → eSk E σ → eSk E σ') ∧ (∀ n, eLo E ≤ n → n < eMx E → eAd E n = eSz E n ∧ eSz E (n + 1) = eSz E n + 1)
theorem GE.noSk {E : EV} (h : GE E) : GE (noSk E) := ⟨h.1, h.2.1, fun _ _ _ _ _ => trivial, h.2.2.2⟩
theorem wof_at {E : EV} {σ : St} {a : Nat} (h : a < sn σ) : (wof E σ)[a]? = some (eAd E a, cof E σ a) := by
  unfold wof
  rw [List.getElem?_map, List.getElem?_range h]
  rfl
theorem wof_of {E : EV} {σ : St} {a : Nat} {q : Nat × va_E} (h : (wof E σ)[a]? = some q) : a < sn σ ∧ q = (eAd E a, cof E σ a) := by
  have hl : a < (wof E σ).length := (List.getElem?_eq_some_iff.mp h).1
  have hl : a < sn σ := by simpa [wof] using hl
  rw [wof_at hl] at h
  exact ⟨hl, (Option.some.inj h).symm⟩
theorem wof_D {E : EV} {σ : St} (hE : GE E) (hn : sn σ ≤ eMx E) : va_D (eA E) (wof E σ) := by
  refine ⟨fun i j p q hi hj e => ?_, fun k q hk => ?_⟩
  · obtain ⟨g1, rfl⟩ := wof_of hi
    obtain ⟨g2, rfl⟩ := wof_of hj
    exact hE.1 _ _ (by omega) (by omega) e
  · obtain ⟨h1, rfl⟩ := wof_of hk
    exact hE.2.1 _ (by omega)
/-- the world with one cell changed -/
theorem wof_set {E : EV} {σ σ' : St} {a : Nat} {e : va_E} (hn : sn σ' = sn σ) (ha : cof E σ' a = e) (ho : ∀ b, b ≠ a → cof E σ' b = cof E σ b) : (wof E σ).set a (eAd E a, e) = wof E σ' := by
  refine List.ext_getElem? fun k => ?_
  by_cases hk : k < sn σ
  · by_cases hka : k = a
    · subst hka
      rw [List.getElem?_set_self (by simpa [wof] using hk), wof_at (by omega), ha]
    · rw [List.getElem?_set_ne (Ne.symm hka), wof_at hk, wof_at (by omega), ho k hka]
  · rw [List.getElem?_eq_none (by simpa [wof] using Nat.le_of_not_lt hk), List.getElem?_eq_none (by simpa [wof, hn] using Nat.le_of_not_lt hk)]
theorem wof_new {E : EV} {σ σ' : St} {e : va_E} (hn : sn σ' = sn σ + 1) (ha : cof E σ' (sn σ) = e) (ho : ∀ b, b < sn σ → cof E σ' b = cof E σ b) : wof E σ ++ [(eAd E (sn σ), e)] = wof E σ' := by
  unfold wof
  rw [hn, List.range_succ, List.map_append, List.map_singleton, ha]
  congr 1
  exact List.map_congr_left fun b hb => by rw [ho b (List.mem_range.mp hb)]


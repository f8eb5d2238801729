set_option maxRecDepth 100000
/-! ===== code that is written: what it comes to, whatever comes behind it ===== -/
def upC (C : CD) (k : Nat) (x : Int × Int) : CD := fun j => if j = k then x else C j
theorem upC_s {C : CD} {k : Nat} {x : Int × Int} : upC C k x k = x := if_pos rfl
theorem upC_n {C : CD} {k j : Nat} {x : Int × Int} (h : j ≠ k) : upC C k x j = C j := if_neg h
def ClS (ord : Bool) (C : CD) (a b : Nat) (f : DS) : Prop := ∀ F : CD, (∀ k, a ≤ k → k < b → F k = C k) → CodeS F ord a b f
def ClT (ord : Bool) (C : CD) (a b : Nat) (f : DT) : Prop := ∀ F : CD, (∀ k, a ≤ k → k < b → F k = C k) → CodeT F ord a b f
theorem ClS.ext {ord : Bool} {C C' : CD} {a b : Nat} {f : DS} (h : ClS ord C a b f) (e : ∀ k, a ≤ k → k < b → C' k = C k) : ClS ord C' a b f := fun F hF => h F fun k h1 h2 => (hF k h1 h2).trans (e k h1 h2)
theorem ClT.ext {ord : Bool} {C C' : CD} {a b : Nat} {f : DT} (h : ClT ord C a b f) (e : ∀ k, a ≤ k → k < b → C' k = C k) : ClT ord C' a b f := fun F hF => h F fun k h1 h2 => (hF k h1 h2).trans (e k h1 h2)
theorem ClS.lt {ord : Bool} {C : CD} {a b : Nat} {f : DS} (h : ClS ord C a b f) : a < b := (h C fun _ _ _ => rfl).1
theorem ClT.lt {ord : Bool} {C : CD} {a b : Nat} {f : DT} (h : ClT ord C a b f) : a < b := (h C fun _ _ _ => rfl).1
theorem ClS.leaf {ord : Bool} {C : CD} {a : Nat} {op arg : Int} (h : C a = (op, arg)) (hl : lfOk ord op arg) {f : DS} (hf : f = fun v => some (lfV ord v op arg)) : ClS ord C a (a + 1) f := fun F hF => by
  subst hf
  have e : F a = (op, arg) := (hF a (Nat.le_refl _) (by omega)).trans h
  refine ⟨by omega, fun v hv last hb st o h1 h2 => ?_⟩
  refine Run.leaf a st o (by omega) (by rw [e]; exact hl) ?_
  rw [e]
  exact h1 _ rfl
theorem op_M {g op x y : Int} (h : (g = 43 ∧ op = 20) ∨ (g = 45 ∧ op = 21) ∨ (g = 42 ∧ op = 22) ∨ (g = 47 ∧ op = 23) ∨ (g = 37 ∧ op = 24)) : opM op x y = opZ g x y := by
  unfold opM opZ opV
  rcases h with ⟨rfl, rfl⟩ | ⟨rfl, rfl⟩ | ⟨rfl, rfl⟩ | ⟨rfl, rfl⟩ | ⟨rfl, rfl⟩
  · rfl
  · rfl
  · rfl
  · by_cases e : y = 0
    · rw [if_neg (by omega), if_neg (by omega), if_neg (by omega), if_pos rfl, if_pos e, if_pos ⟨Or.inl rfl, e⟩]
    · rw [if_neg (by omega), if_neg (by omega), if_neg (by omega), if_pos rfl, if_neg e, if_neg (fun z => e z.2), if_neg (by omega), if_neg (by omega), if_neg (by omega), if_pos rfl]
  · by_cases e : y = 0
    · rw [if_neg (by omega), if_neg (by omega), if_neg (by omega), if_neg (by omega), if_pos rfl, if_pos e, if_pos ⟨Or.inr rfl, e⟩]
    · rw [if_neg (by omega), if_neg (by omega), if_neg (by omega), if_neg (by omega), if_pos rfl, if_neg e, if_neg (fun z => e z.2), if_neg (by omega), if_neg (by omega), if_neg (by omega), if_neg (by omega)]
theorem ClS.two {ord : Bool} {C : CD} {a m b : Nat} {f f2 : DS} {g op arg : Int} (h1 : ClS ord C a m f) (h2 : ClS ord C m b f2) (h3 : C b = (op, arg)) (hg : (g = 43 ∧ op = 20) ∨ (g = 45 ∧ op = 21) ∨ (g = 42 ∧ op = 22) ∨ (g = 47 ∧ op = 23) ∨ (g = 37 ∧ op = 24)) : ClS ord C a (b + 1) (dTwo g f f2) := fun F hF => by
  have c1 := h1 F fun k k1 k2 => hF k k1 (by have := h2.lt; omega)
  have c2 := h2 F fun k k1 k2 => hF k (by have := h1.lt; omega) (by omega)
  have e : F b = (op, arg) := (hF b (by have := h1.lt; have := h2.lt; omega) (by omega)).trans h3
  refine ⟨by have := h1.lt; have := h2.lt; omega, fun v hv last hb st o k1 k2 => ?_⟩
  refine c1.2 v hv last (by have := h2.lt; omega) st o (fun x ex => ?_) fun ex => k2 (by unfold dTwo; rw [ex])
  refine c2.2 v hv last (by omega) (x :: st) o (fun y ey => ?_) fun ey => k2 (by unfold dTwo; rw [ex, ey])
  have eo : dTwo g f f2 v = opM (F b).1 x y := by
    rw [e]
    unfold dTwo
    rw [ex, ey]
    exact (op_M hg).symm
  have ho : 20 ≤ (F b).1 ∧ (F b).1 ≤ 27 := by rw [e]; show 20 ≤ op ∧ op ≤ 27; omega
  cases em : opM (F b).1 x y with
  | none =>
    rw [k2 (eo.trans em)]
    exact Run.brk b x y st (by omega) ho em
  | some z => exact Run.two b x y z st o (by omega) ho em (k1 z (eo.trans em))
theorem ClT.cmp {ord : Bool} {C : CD} {a m b : Nat} {f f2 : DS} {g op arg : Int} (h1 : ClS ord C a m f) (h2 : ClS ord C m b f2) (h3 : C b = (op, arg)) (hg : (g = 60 ∧ op = 25) ∨ (g = 62 ∧ op = 26) ∨ (g = 61 ∧ op = 27)) : ClT ord C a (b + 1) (dCmp g f f2) := fun F hF => by
  have c1 := h1 F fun k k1 k2 => hF k k1 (by have := h2.lt; omega)
  have c2 := h2 F fun k k1 k2 => hF k (by have := h1.lt; omega) (by omega)
  have e : F b = (op, arg) := (hF b (by have := h1.lt; have := h2.lt; omega) (by omega)).trans h3
  refine ⟨by have := h1.lt; have := h2.lt; omega, fun v hv last hb st o k1 k2 => ?_⟩
  refine c1.2 v hv last (by have := h2.lt; omega) st o (fun x ex => ?_) fun ex => k2 (by unfold dCmp; rw [ex])
  refine c2.2 v hv last (by omega) (x :: st) o (fun y ey => ?_) fun ey => k2 (by unfold dCmp; rw [ex, ey])
  have eo : dCmp g f f2 v = some (cmpZ g x y) := by
    unfold dCmp
    rw [ex, ey]
  have ho : 20 ≤ (F b).1 ∧ (F b).1 ≤ 27 := by rw [e]; show 20 ≤ op ∧ op ≤ 27; omega
  have em : opM (F b).1 x y = some (tZ (cmpZ g x y)) := by
    rw [e]
    show opM op x y = _
    rcases hg with ⟨rfl, rfl⟩ | ⟨rfl, rfl⟩ | ⟨rfl, rfl⟩
    · show some (if x < y then (1 : Int) else 0) = some (tZ (decide (x < y)))
      by_cases c : x < y
      · rw [if_pos c, decide_eq_true c]; rfl
      · rw [if_neg c, decide_eq_false c]; rfl
    · show some (if y < x then (1 : Int) else 0) = some (tZ (decide (y < x)))
      by_cases c : y < x
      · rw [if_pos c, decide_eq_true c]; rfl
      · rw [if_neg c, decide_eq_false c]; rfl
    · show some (if x = y then (1 : Int) else 0) = some (tZ (decide (x = y)))
      by_cases c : x = y
      · rw [if_pos c, decide_eq_true c]; rfl
      · rw [if_neg c, decide_eq_false c]; rfl
  exact Run.two b x y _ st o (by omega) ho em (k1 _ eo)
theorem ClT.no {ord : Bool} {C : CD} {a b : Nat} {t : DT} {arg : Int} (h1 : ClT ord C a b t) (h3 : C b = (28, arg)) : ClT ord C a (b + 1) (dNot t) := fun F hF => by
  have c1 := h1 F fun k k1 k2 => hF k k1 (by omega)
  have e : F b = (28, arg) := (hF b (by have := h1.lt; omega) (by omega)).trans h3
  refine ⟨by have := h1.lt; omega, fun v hv last hb st o k1 k2 => ?_⟩
  refine c1.2 v hv last (by omega) st o (fun x ex => ?_) fun ex => k2 (by unfold dNot; rw [ex]; rfl)
  refine Run.no b (tZ x) st o (by omega) (by rw [e]) (tZ_01 x) ?_
  have := k1 (!x) (by unfold dNot; rw [ex]; rfl)
  rw [show 1 - tZ x = tZ (!x) by cases x <;> rfl]
  exact this
theorem dNot2 {t : DT} : dNot (dNot t) = t := funext fun v => by
  unfold dNot
  cases t v with
  | none => rfl
  | some b => cases b <;> rfl
theorem dSev_1 {all : Bool} {t : DT} : dSev all [t] = t := funext fun v => by
  rw [dSev_cons]
  cases t v with
  | none => rfl
  | some b => cases b <;> cases all <;> rfl
theorem dSev_app {all : Bool} {t : DT} : ∀ (ts : List DT) (v : Nat → Int), dSev all (ts ++ [t]) v = match dSev all ts v with
    | none => none
    | some b => if b = all then t v else some (!all)
  | [], v => by
    show dSev all [t] v = _
    rw [dSev_1]
    show _ = if all = all then t v else some (!all)
    rw [if_pos rfl]
  | f :: r, v => by
    show dSev all (f :: (r ++ [t])) v = _
    rw [dSev_cons, dSev_cons]
    cases f v with
    | none => rfl
    | some b =>
      by_cases c : b = all
      · show (if b = all then _ else _) = _
        rw [if_pos c, dSev_app r v]
        show _ = match (if b = all then dSev all r v else some (!all)) with
          | none => none
          | some b => if b = all then t v else some (!all)
        rw [if_pos c]
      · show (if b = all then _ else _) = _
        rw [if_neg c]
        show _ = match (if b = all then dSev all r v else some (!all)) with
          | none => none
          | some b => if b = all then t v else some (!all)
        rw [if_neg c]
        cases all <;> rfl
theorem ClT.sev {ord : Bool} {C : CD} {a m b : Nat} {ts : List DT} {t : DT} {all : Bool} (h1 : ClT ord C a m (dSev all ts)) (h2 : ClT ord C (m + 1) b t) (h3 : C m = (if all then 29 else 30, (b : Int))) (hb : b ≤ 400) : ClT ord C a b (dSev all (ts ++ [t])) := fun F hF => by
  have l1 := h1.lt
  have l2 := h2.lt
  have c1 := h1 F fun k k1 k2 => hF k k1 (by omega)
  have c2 := h2 F fun k k1 k2 => hF k (by omega) (by omega)
  have e : F m = (if all then 29 else 30, (b : Int)) := (hF m (by omega) (by omega)).trans h3
  refine ⟨by omega, fun v hv last hl st o k1 k2 => ?_⟩
  refine c1.2 v hv last (by omega) st o (fun x ex => ?_) fun ex => k2 (by rw [dSev_app, ex])
  have ea := dSev_app (all := all) (t := t) ts v
  rw [ex] at ea
  by_cases c : x = all
  · have ea : dSev all (ts ++ [t]) v = t v := ea.trans (if_pos c)
    refine Run.pass m (tZ x) st o (by omega) (by rw [e, c]; cases all <;> first | exact Or.inl ⟨rfl, rfl⟩ | exact Or.inr ⟨rfl, rfl⟩) (by rw [e]; show (b : Int) ≥ 0 ∧ (b : Int) ≤ 400; omega) ?_
    exact c2.2 v hv last (by omega) st o (fun y ey => k1 y (ea.trans ey)) fun ey => k2 (ea.trans ey)
  · have ea : dSev all (ts ++ [t]) v = some (!all) := ea.trans (if_neg c)
    have hx : x = !all := by cases x <;> cases all <;> first | rfl | exact absurd rfl c
    have := k1 _ ea
    rw [← hx] at this
    exact Run.jmp m b (tZ x) st o (by omega) (by rw [e, hx]; cases all <;> first | exact Or.inl ⟨rfl, rfl⟩ | exact Or.inr ⟨rfl, rfl⟩) (by rw [e]) (by omega) (by omega) this
/-- the pile is settled -/
abbrev jmpO (x : Int × Nat) : Prop := x.1 = 29 ∨ x.1 = 30
def stC : List (Int × Nat) → CD × Nat → CD × Nat
  | [], x => x
  | y :: q, (C, n) => if jmpO y then stC q (upC C y.2 ((C y.2).1, (n : Int)), n) else stC q (upC C n (y.1, 0), n + 1)
theorem stC_app : ∀ (q q' : List (Int × Nat)) (x : CD × Nat), stC (q ++ q') x = stC q' (stC q x)
  | [], _, _ => rfl
  | y :: q, q', (C, n) => by
    show (if jmpO y then stC (q ++ q') _ else stC (q ++ q') _) = stC q' (if jmpO y then stC q _ else stC q _)
    split
    · exact stC_app q q' _
    · exact stC_app q q' _
/-- what settling leaves as it is -/
theorem stC_lo {lo : Nat} : ∀ (q : List (Int × Nat)) (C : CD) (n : Nat), lo ≤ n → (∀ y ∈ q, jmpO y → lo ≤ y.2) → n ≤ (stC q (C, n)).2 ∧ ∀ k, k < lo → (stC q (C, n)).1 k = C k
  | [], _, _, _, _ => ⟨Nat.le_refl _, fun _ _ => rfl⟩
  | y :: q, C, n, hn, h => by
    show n ≤ (if jmpO y then stC q _ else stC q _).2 ∧ ∀ k, k < lo → (if jmpO y then stC q _ else stC q _).1 k = C k
    by_cases c : jmpO y
    · rw [if_pos c]
      have h2 := h y List.mem_cons_self c
      obtain ⟨i1, i2⟩ := stC_lo q (upC C y.2 ((C y.2).1, (n : Int))) n hn fun z hz => h z (List.mem_cons_of_mem _ hz)
      exact ⟨i1, fun k hk => by rw [i2 k hk, upC_n (by omega)]⟩
    · rw [if_neg c]
      obtain ⟨i1, i2⟩ := stC_lo q (upC C n (y.1, 0)) (n + 1) (by omega) fun z hz => h z (List.mem_cons_of_mem _ hz)
      exact ⟨by omega, fun k hk => by rw [i2 k hk, upC_n (by omega)]⟩
/-- how many signs are still to be written -/
def cnt : List (Int × Nat) → Nat
  | [] => 0
  | y :: q => (if 20 ≤ y.1 ∧ y.1 ≤ 28 then 1 else 0) + cnt q
theorem cnt_app : ∀ (q q' : List (Int × Nat)), cnt (q ++ q') = cnt q + cnt q'
  | [], q' => by show cnt q' = 0 + cnt q'; omega
  | y :: q, q' => by
    show _ + cnt (q ++ q') = _ + cnt q + _
    rw [cnt_app q q']
    omega
theorem stC_n : ∀ (q : List (Int × Nat)) (C : CD) (n : Nat), (∀ y ∈ q, 20 ≤ y.1 ∧ y.1 ≤ 30) → (stC q (C, n)).2 = n + cnt q
  | [], _, _, _ => rfl
  | y :: q, C, n, h => by
    show (if jmpO y then stC q _ else stC q _).2 = n + (_ + cnt q)
    have hy := h y List.mem_cons_self
    have ih := fun C n => stC_n q C n fun z hz => h z (List.mem_cons_of_mem _ hz)
    by_cases c : jmpO y
    · rw [if_pos c, ih]
      unfold jmpO at c
      rw [if_neg (by omega)]
      omega
    · rw [if_neg c, ih]
      unfold jmpO at c
      rw [if_pos (by omega)]
      omega

set_option maxRecDepth 100000
/-! ===== the model's code: what it comes to, and the run over it ===== -/
def opM (op a b : Int) : Option Int := if op = 20 then lim (a + b) else if op = 21 then lim (a - b) else if op = 22 then lim (a * b) else if op = 23 then (if b = 0 then none else lim (a.tdiv b)) else if op = 24 then (if b = 0 then none else lim (a.tmod b)) else if op = 25 then some (if a < b then 1 else 0) else if op = 26 then some (if b < a then 1 else 0) else some (if a = b then 1 else 0)
def bnB (x : Int) : Prop := -1000000000 ≤ x ∧ x ≤ 1000000000
def lfOk (ord : Bool) (op arg : Int) : Prop := (op = 0 ∧ 0 ≤ arg ∧ arg ≤ 1000) ∨ (ord = false ∧ 1 ≤ op ∧ op ≤ 14) ∨ (ord = true ∧ 1 ≤ op ∧ op ≤ 3) ∨ (ord = true ∧ 4 ≤ op ∧ op ≤ 5 ∧ 0 ≤ arg ∧ arg ≤ 5)
def lfV (ord : Bool) (v : Nat → Int) (op arg : Int) : Int := if op = 0 then arg else if ord = true ∧ op = 4 then v (3 + arg.toNat) else if ord = true ∧ op = 5 then v (9 + arg.toNat) else v (op.toNat - 1)
theorem lfV_b {ord : Bool} {v : Nat → Int} {op arg : Int} (h : lfOk ord op arg) (hv : vok v) : bnB (lfV ord v op arg) := by
  unfold lfV bnB
  split
  · unfold lfOk at h; omega
  · split
    · exact hv _
    · split
      · exact hv _
      · exact hv _
theorem opM_b {op a b z : Int} (h : opM op a b = some z) : bnB z := by
  unfold opM at h
  unfold bnB
  repeat' split at h
  all_goals first | exact (lim_r h).2 | (cases h; omega) | cases h
/-- the run over code, with so many steps -/
def RunF (C : CD) (ord : Bool) (v : Nat → Int) (last : Nat) : Nat → Nat → List Int → Option Int → Prop
  | 0, _, _, _ => False
  | n + 1, k, st, o =>
    (last ≤ k ∧ ∃ z, st = [z] ∧ o = some z) ∨
    ((k < last ∧ lfOk ord (C k).1 (C k).2) ∧ RunF C ord v last n (k + 1) (lfV ord v (C k).1 (C k).2 :: st) o) ∨
    ((k < last ∧ 20 ≤ (C k).1 ∧ (C k).1 ≤ 27) ∧ ∃ x y r, st = y :: x :: r ∧ match opM (C k).1 x y with
      | none => o = none
      | some z => RunF C ord v last n (k + 1) (z :: r) o) ∨
    ((k < last ∧ (C k).1 = 28) ∧ ∃ x r, st = x :: r ∧ (x = 0 ∨ x = 1) ∧ RunF C ord v last n (k + 1) ((1 - x) :: r) o) ∨
    (k < last ∧ ∃ x r m, st = x :: r ∧ (((C k).1 = 29 ∧ x = 0) ∨ ((C k).1 = 30 ∧ x = 1)) ∧ (C k).2 = ((m : Nat) : Int) ∧ k < m ∧ m ≤ last ∧ RunF C ord v last n m st o) ∨
    (k < last ∧ ∃ x r, st = x :: r ∧ (((C k).1 = 29 ∧ x = 1) ∨ ((C k).1 = 30 ∧ x = 0)) ∧ ((C k).2 ≥ 0 ∧ (C k).2 ≤ 400) ∧ RunF C ord v last n (k + 1) r o)
def Run (C : CD) (ord : Bool) (v : Nat → Int) (last k : Nat) (st : List Int) (o : Option Int) : Prop := ∃ n, RunF C ord v last n k st o
theorem Run.done {C : CD} {ord : Bool} {v : Nat → Int} {last : Nat} (k : Nat) (z : Int) (h : last ≤ k) : Run C ord v last k [z] (some z) := ⟨1, Or.inl ⟨h, z, rfl, rfl⟩⟩
theorem Run.leaf {C : CD} {ord : Bool} {v : Nat → Int} {last : Nat} (k : Nat) (st : List Int) (o : Option Int) (h : k < last) (h1 : lfOk ord (C k).1 (C k).2) (r : Run C ord v last (k + 1) (lfV ord v (C k).1 (C k).2 :: st) o) : Run C ord v last k st o := by
  obtain ⟨n, r⟩ := r
  exact ⟨n + 1, Or.inr (Or.inl ⟨⟨h, h1⟩, r⟩)⟩
theorem Run.two {C : CD} {ord : Bool} {v : Nat → Int} {last : Nat} (k : Nat) (x y z : Int) (st : List Int) (o : Option Int) (h : k < last) (h1 : 20 ≤ (C k).1 ∧ (C k).1 ≤ 27) (h2 : opM (C k).1 x y = some z) (r : Run C ord v last (k + 1) (z :: st) o) : Run C ord v last k (y :: x :: st) o := by
  obtain ⟨n, r⟩ := r
  exact ⟨n + 1, Or.inr (Or.inr (Or.inl ⟨⟨h, h1⟩, x, y, st, rfl, by rw [h2]; exact r⟩))⟩
theorem Run.brk {C : CD} {ord : Bool} {v : Nat → Int} {last : Nat} (k : Nat) (x y : Int) (st : List Int) (h : k < last) (h1 : 20 ≤ (C k).1 ∧ (C k).1 ≤ 27) (h2 : opM (C k).1 x y = none) : Run C ord v last k (y :: x :: st) none :=
  ⟨1, Or.inr (Or.inr (Or.inl ⟨⟨h, h1⟩, x, y, st, rfl, by rw [h2]⟩))⟩
theorem Run.no {C : CD} {ord : Bool} {v : Nat → Int} {last : Nat} (k : Nat) (x : Int) (st : List Int) (o : Option Int) (h : k < last) (h1 : (C k).1 = 28) (h2 : x = 0 ∨ x = 1) (r : Run C ord v last (k + 1) ((1 - x) :: st) o) : Run C ord v last k (x :: st) o := by
  obtain ⟨n, r⟩ := r
  exact ⟨n + 1, Or.inr (Or.inr (Or.inr (Or.inl ⟨⟨h, h1⟩, x, st, rfl, h2, r⟩)))⟩
theorem Run.jmp {C : CD} {ord : Bool} {v : Nat → Int} {last : Nat} (k m : Nat) (x : Int) (st : List Int) (o : Option Int) (h : k < last) (h1 : ((C k).1 = 29 ∧ x = 0) ∨ ((C k).1 = 30 ∧ x = 1)) (h2 : (C k).2 = (m : Int)) (h3 : k < m) (h4 : m ≤ last) (r : Run C ord v last m (x :: st) o) : Run C ord v last k (x :: st) o := by
  obtain ⟨n, r⟩ := r
  exact ⟨n + 1, Or.inr (Or.inr (Or.inr (Or.inr (Or.inl ⟨h, x, st, m, rfl, h1, h2, h3, h4, r⟩))))⟩
theorem Run.pass {C : CD} {ord : Bool} {v : Nat → Int} {last : Nat} (k : Nat) (x : Int) (st : List Int) (o : Option Int) (h : k < last) (h1 : ((C k).1 = 29 ∧ x = 1) ∨ ((C k).1 = 30 ∧ x = 0)) (h2 : (C k).2 ≥ 0 ∧ (C k).2 ≤ 400) (r : Run C ord v last (k + 1) st o) : Run C ord v last k (x :: st) o := by
  obtain ⟨n, r⟩ := r
  exact ⟨n + 1, Or.inr (Or.inr (Or.inr (Or.inr (Or.inr ⟨h, x, st, rfl, h1, h2, r⟩))))⟩
/-- the code from a to b comes to the sum f -/
def CodeS (C : CD) (ord : Bool) (a b : Nat) (f : DS) : Prop := a < b ∧ ∀ v, vok v → ∀ last, b ≤ last → ∀ st o, (∀ z, f v = some z → Run C ord v last b (z :: st) o) → (f v = none → o = none) → Run C ord v last a st o
def tZ (b : Bool) : Int := if b then 1 else 0
def CodeT (C : CD) (ord : Bool) (a b : Nat) (f : DT) : Prop := a < b ∧ ∀ v, vok v → ∀ last, b ≤ last → ∀ st o, (∀ z, f v = some z → Run C ord v last b (tZ z :: st) o) → (f v = none → o = none) → Run C ord v last a st o
theorem CodeS.run {C : CD} {ord : Bool} {a b : Nat} {f : DS} (h : CodeS C ord a b f) {v : Nat → Int} (hv : vok v) : Run C ord v b a [] (f v) := h.2 v hv b (Nat.le_refl _) [] (f v) (fun z e => by rw [e]; exact Run.done b z (Nat.le_refl _)) (fun e => e)
theorem CodeT.run {C : CD} {ord : Bool} {a b : Nat} {f : DT} (h : CodeT C ord a b f) {v : Nat → Int} (hv : vok v) : Run C ord v b a [] ((f v).map tZ) := h.2 v hv b (Nat.le_refl _) [] ((f v).map tZ) (fun z e => by rw [e]; exact Run.done b _ (Nat.le_refl _)) (fun e => by rw [e]; rfl)
/-- the stack, as it lies -/
def StkE (t : St) : List Int → Prop
  | [] => True
  | x :: st => sl t 21 st.length = lI x ∧ bnB x ∧ StkE t st
theorem StkE.go {t t' : St} : ∀ (st : List Int), (∀ j, j < st.length → sl t' 21 j = sl t 21 j) → StkE t st → StkE t' st
  | [], _, _ => trivial
  | x :: st, h, hs => ⟨by rw [h _ (by simp)]; exact hs.1, hs.2.1, StkE.go st (fun j hj => h j (by simp only [List.length_cons]; omega)) hs.2.2⟩
/-- the code as it lies: in the row behind the law, or where orders are -/
def CdE (ord : Bool) (t : St) (L n : Nat) (C : CD) : Prop := n ≤ 400 ∧ match ord with
  | false => si t 0 21 = iI 0 ∧ si t 0 35 = iI L ∧ (L ≤ 4560) ∧ ∀ k, k < n → si t 2 (L + 98 + 2 * k) = iI (C k).1 ∧ si t 2 (L + 98 + 2 * k + 1) = iI (C k).2
  | true => si t 0 21 = iI 1 ∧ ∀ k, k < n → si t 12 k = iI (C k).1 ∧ si t 13 k = iI (C k).2
/-- the values as they lie -/
def VlE (ord : Bool) (t : St) (v : Nat → Int) : Prop := vok v ∧ match ord with
  | false => ∀ k, k < 14 → sl t 19 (k + 1) = lI (v k)
  | true => (∀ k, k < 3 → sl t 20 (k + 1) = lI (v k)) ∧ ∃ w : WR, RMi t w ∧ (0 ≤ w 2 8 ∧ w 2 8 ≤ 6) ∧ ∀ c : Int, 0 ≤ c → c ≤ 5 → (v (3 + c.toNat) = (if c < w 2 8 then w 3 c else -1)) ∧ (v (9 + c.toNat) = (if c < w 2 8 then w 7 c else -1))
def Srk (a k : Nat) : Prop := a = 121 ∨ (a = 0 ∧ k = 39) ∨ (a = 100 ∧ k = 40)
theorem Srk_m {a j : Nat} (h : inM a j) : ¬ Srk a j := by
  unfold inM at h
  unfold Srk
  omega
theorem CdE.go {ord : Bool} {t t' : St} {L n : Nat} {C : CD} (h : CdE ord t L n C) (hf : Fm Srk t t') : CdE ord t' L n C := by
  obtain ⟨h1, h2⟩ := h
  refine ⟨h1, ?_⟩
  cases ord
  · exact ⟨by rw [hf.i _ _ (by unfold Srk; omega)]; exact h2.1, by rw [hf.i _ _ (by unfold Srk; omega)]; exact h2.2.1, h2.2.2.1, fun k hk => by rw [hf.i _ _ (by unfold Srk; omega), hf.i _ _ (by unfold Srk; omega)]; exact h2.2.2.2 k hk⟩
  · exact ⟨by rw [hf.i _ _ (by unfold Srk; omega)]; exact h2.1, fun k hk => by rw [hf.i _ _ (by unfold Srk; omega), hf.i _ _ (by unfold Srk; omega)]; exact h2.2 k hk⟩
theorem VlE.go {ord : Bool} {t t' : St} {v : Nat → Int} (h : VlE ord t v) (hf : Fm Srk t t') : VlE ord t' v := by
  obtain ⟨h1, h2⟩ := h
  refine ⟨h1, ?_⟩
  cases ord
  · exact fun k hk => by rw [hf.l _ _ (by unfold Srk; omega)]; exact h2 k hk
  · obtain ⟨h3, w, h4, h5⟩ := h2
    exact ⟨fun k hk => by rw [hf.l _ _ (by unfold Srk; omega)]; exact h3 k hk, w, h4.go hf fun a j => Srk_m, h5⟩
theorem e_X5_in (t : St) {v lo hi : Int} (h : -4000000000000000000 ≤ v ∧ v ≤ 4000000000000000000) (h1 : -4000000000 ≤ lo ∧ lo ≤ 4000000000) (h2 : -4000000000 ≤ hi ∧ hi ≤ 4000000000) : F_X5_in t (lI v) (lI lo) (lI hi) = some (iI (bZ (lo ≤ v ∧ v ≤ hi)), t) := by
  unfold F_X5_in
  simp (disch := omega) only [lI_lt]
  by_cases a : v < lo
  · rw [if_pos a, bZ_f (by omega)]; rfl
  · rw [if_neg a]
    by_cases b : hi < v
    · rw [if_pos b, bZ_f (by omega)]; rfl
    · rw [if_neg b, bZ_t (by omega)]; rfl

def BkE (t : St) : Prop := si t 0 39 = iI 0
/-- one place of the code -/
theorem e_reck_at {ord : Bool} {t : St} {L n : Nat} {C : CD} (hC : CdE ord t L n C) {k : Nat} (hk : k < n) (hb : BkE t) (g : Nat) (m : Int) : F_X5_reckonAll_10 (g + 1) t (iI n) (iI m) (iI k) = F_X5_reckonAll_95 (F_X5_reckonAll_10 g) t (iI n) (iI m) (iI k) (iI (C k).1) (iI (C k).2) := by
  obtain ⟨h1, h2⟩ := hC
  have hb0 : si t 0 39 = 0 := hb
  simp only [F_X5_reckonAll_10]
  rw [if_neg (by rw [iI_le (by omega) (by omega)]; omega), if_pos hb0]
  unfold F_X5_reckonAll_57
  cases ord
  · have h3 : si t 0 21 = 0 := h2.1
    have h5 := h2.2.2.1
    have h4 := h2.2.2.2 k hk
    rw [if_pos h3, if_pos h3, h2.2.1]
    simp (disch := omega) only [k_98, k_2, k_1, iI_add, iI_mul, inb_g]
    rw [iI_nat (by omega), iI_nat (by omega), show ((L : Int) + 98 + 2 * (k : Int)).toNat = L + 98 + 2 * k by omega, show ((L : Int) + 98 + 2 * (k : Int) + 1).toNat = L + 98 + 2 * k + 1 by omega, h4.1, h4.2]
  · have h3 : ¬ si t 0 21 = 0 := by rw [h2.1]; decide
    have h4 := h2.2 k hk
    rw [if_neg h3, if_neg h3, inb_g (by omega), inb_g (by omega), iI_nat (by omega), Int.toNat_natCast, h4.1, h4.2]
theorem e_reck_end {t : St} {n k : Nat} {m : Int} (hk : n ≤ k) (h : k ≤ 400) (g : Nat) : F_X5_reckonAll_10 (g + 1) t (iI n) (iI m) (iI k) = F_X5_reckonAll_338 t (iI m) := by
  simp only [F_X5_reckonAll_10]
  rw [if_pos (by rw [iI_le (by omega) (by omega)]; omega)]
theorem e_reck_brk {t : St} {n k : Nat} {m : Int} (hb : si t 0 39 = iI 1) (g : Nat) : F_X5_reckonAll_10 (g + 1) t (iI n) (iI m) (iI k) = F_X5_reckonAll_338 t (iI m) := by
  simp only [F_X5_reckonAll_10]
  have : ¬ si t 0 39 = 0 := by rw [hb]; decide
  rw [if_neg this, ite_self]
def RkO (t t' : St) (o : Option Int) : Prop := Fm Srk t t' ∧ match o with
  | none => si t' 0 39 = iI 1
  | some z => si t' 0 39 = iI 0 ∧ sl t' 0 40 = lI z
theorem RkO.after {t t1 t' : St} {o : Option Int} (h : Fm Srk t t1) (k : RkO t1 t' o) : RkO t t' o := ⟨h.tr k.1, k.2⟩
theorem e_reck_338 {t : St} {m : Int} (h : 0 ≤ m ∧ m ≤ 400) : ∃ t', F_X5_reckonAll_338 t (iI m) = some ((), t') ∧ Fm Srk t t' ∧ si t' 0 39 = si t 0 39 ∧ (0 < m → sl t' 0 40 = sl t 21 0) := by
  unfold F_X5_reckonAll_338 F_X5_reckonAll_353
  simp (disch := omega) only [k_0, iI_le, inb_g, nam_v, iI_nat]
  by_cases h0 : m ≤ 0
  · rw [if_pos h0]
    exact ⟨_, rfl, Fm.setL (by unfold Srk; omega), rfl, fun z => by omega⟩
  · rw [if_neg h0]
    exact ⟨_, rfl, Fm.setL (by unfold Srk; omega), rfl, fun _ => by rw [sl_set, if_pos rfl, if_pos rfl]; rfl⟩
/-- the raw answer of a sign, and whether it broke -/
def opQ (op a b : Int) : Int := if op = 20 then a + b else if op = 21 then a - b else if op = 22 then a * b else if op = 23 then (if b = 0 then 0 else a.tdiv b) else if op = 24 then (if b = 0 then 0 else a.tmod b) else if op = 25 then (if a < b then 1 else 0) else if op = 26 then (if b < a then 1 else 0) else if a = b then 1 else 0
def opB (op b : Int) : Prop := (op = 23 ∨ op = 24) ∧ b = 0
theorem opM_q {op a b : Int} (hop : 20 ≤ op ∧ op ≤ 27) : opM op a b = if (op = 23 ∨ op = 24) ∧ b = 0 then none else lim (opQ op a b) := by
  have h8 : op = 20 ∨ op = 21 ∨ op = 22 ∨ op = 23 ∨ op = 24 ∨ op = 25 ∨ op = 26 ∨ op = 27 := by omega
  have l1 : lim 1 = some 1 := by decide
  have l0 : lim 0 = some 0 := by decide
  unfold opM opQ
  rcases h8 with rfl | rfl | rfl | rfl | rfl | rfl | rfl | rfl
  · simp
  · simp
  · simp
  · by_cases h : b = 0 <;> simp [h]
  · by_cases h : b = 0 <;> simp [h]
  · by_cases h : a < b <;> simp [h, l0, l1]
  · by_cases h : b < a <;> simp [h, l0, l1]
  · by_cases h : a = b <;> simp [h, l0, l1]
theorem opQ_r {op x y : Int} (hx : bnB x) (hy : bnB y) : -1000000000000000000 ≤ opQ op x y ∧ opQ op x y ≤ 1000000000000000000 := by
  have h1 := mul_rng hx hy
  have h2 := tdiv_rng (a := x) (b := y) (M := 1000000000) (by omega) hx.1 hx.2
  have h3 := tmod_rng (a := x) (b := y) (M := 1000000000) (by omega) hx.1 hx.2
  unfold bnB at hx hy
  unfold opQ
  repeat' split
  all_goals omega
theorem e_X5_reckon {t : St} {op x y : Int} (hop : 20 ≤ op ∧ op ≤ 27) (hx : bnB x) (hy : bnB y) (hb : BkE t) : ∃ t', F_X5_reckon t (iI op) (lI x) (lI y) = some (lI (opQ op x y), t') ∧ Fm Srk t t' ∧ sl t' = sl t ∧ ((opB op y → si t' 0 39 = iI 1) ∧ (¬ opB op y → si t' 0 39 = iI 0)) := by
  have h8 : op = 20 ∨ op = 21 ∨ op = 22 ∨ op = 23 ∨ op = 24 ∨ op = 25 ∨ op = 26 ∨ op = 27 := by omega
  have hx0 := hx
  have hy0 := hy
  unfold bnB at hx hy
  have nb : ∀ op, op ≠ 23 → op ≠ 24 → ¬ opB op y := fun op h1 h2 z => by unfold opB at z; omega
  have fin : ∀ op z, op ≠ 23 → op ≠ 24 → z = opQ op x y → ∃ t', (some (lI z, t) : Option (Int64 × St)) = some (lI (opQ op x y), t') ∧ Fm Srk t t' ∧ sl t' = sl t ∧ ((opB op y → si t' 0 39 = iI 1) ∧ (¬ opB op y → si t' 0 39 = iI 0)) := fun op z h1 h2 e => ⟨t, by rw [e], Fm.rf, rfl, fun z => absurd z (nb op h1 h2), fun _ => hb⟩
  unfold F_X5_reckon
  rcases h8 with rfl | rfl | rfl | rfl | rfl | rfl | rfl | rfl
  · rw [if_pos (by rfl), lI_add]
    exact fin 20 _ (by decide) (by decide) (by simp [opQ])
  · rw [if_neg (by decide), if_pos (by rfl), lI_sub]
    exact fin 21 _ (by decide) (by decide) (by simp [opQ])
  · rw [if_neg (by decide), if_neg (by decide), if_pos (by rfl), lI_mul]
    exact fin 22 _ (by decide) (by decide) (by simp [opQ])
  · rw [if_neg (by decide), if_neg (by decide), if_neg (by decide), if_pos (by rfl)]
    unfold F_X5_reckon_72
    by_cases h : y = 0
    · rw [if_pos (by rw [h]; rfl), gd_ok (by decide), nam_v]
      refine ⟨setI t 0 39 (1 : Int32), ?_, Fm.set (by unfold Srk; omega), rfl, fun _ => ?_, fun z => absurd ⟨Or.inl rfl, h⟩ z⟩
      · rw [if_neg (by rw [si_set, if_pos rfl, if_pos rfl]; decide)]
        rw [show opQ 23 x y = 0 by simp [opQ, h]]
        rfl
      · rw [si_set, if_pos rfl, if_pos rfl]; rfl
    · rw [if_neg (by rw [K_0, lI_eq (by omega) (by omega)]; exact h), gd_ok (by decide), nam_v]
      refine ⟨setI t 0 39 (0 : Int32), ?_, Fm.set (by unfold Srk; omega), rfl, fun z => absurd z.2 h, fun _ => ?_⟩
      · rw [if_pos (by rw [si_set, if_pos rfl, if_pos rfl]), gd_ok (nzl_t h (by omega)), lI_div (by omega) (by omega)]
        rw [show opQ 23 x y = x.tdiv y by simp [opQ, h]]
      · rw [si_set, if_pos rfl, if_pos rfl]; rfl
  · rw [if_neg (by decide), if_neg (by decide), if_neg (by decide), if_neg (by decide), if_pos (by rfl)]
    unfold F_X5_reckon_104
    by_cases h : y = 0
    · rw [if_pos (by rw [h]; rfl), gd_ok (by decide), nam_v]
      refine ⟨setI t 0 39 (1 : Int32), ?_, Fm.set (by unfold Srk; omega), rfl, fun _ => ?_, fun z => absurd ⟨Or.inr rfl, h⟩ z⟩
      · rw [if_neg (by rw [si_set, if_pos rfl, if_pos rfl]; decide)]
        rw [show opQ 24 x y = 0 by simp [opQ, h]]
        rfl
      · rw [si_set, if_pos rfl, if_pos rfl]; rfl
    · rw [if_neg (by rw [K_0, lI_eq (by omega) (by omega)]; exact h), gd_ok (by decide), nam_v]
      refine ⟨setI t 0 39 (0 : Int32), ?_, Fm.set (by unfold Srk; omega), rfl, fun z => absurd z.2 h, fun _ => ?_⟩
      · rw [if_pos (by rw [si_set, if_pos rfl, if_pos rfl]), gd_ok (nzl_t h (by omega)), lI_rem (by omega) (by omega)]
        rw [show opQ 24 x y = x.tmod y by simp [opQ, h]]
      · rw [si_set, if_pos rfl, if_pos rfl]; rfl
  · rw [if_neg (by decide), if_neg (by decide), if_neg (by decide), if_neg (by decide), if_neg (by decide), if_pos (by rfl)]
    simp (disch := omega) only [lI_le]
    by_cases h : y ≤ x
    · rw [if_pos h]
      exact fin 25 0 (by decide) (by decide) (by simp [opQ]; omega)
    · rw [if_neg h]
      exact fin 25 1 (by decide) (by decide) (by simp [opQ]; omega)
  · rw [if_neg (by decide), if_neg (by decide), if_neg (by decide), if_neg (by decide), if_neg (by decide), if_neg (by decide), if_pos (by rfl)]
    simp (disch := omega) only [lI_le]
    by_cases h : x ≤ y
    · rw [if_pos h]
      exact fin 26 0 (by decide) (by decide) (by simp [opQ]; omega)
    · rw [if_neg h]
      exact fin 26 1 (by decide) (by decide) (by simp [opQ]; omega)
  · rw [if_neg (by decide), if_neg (by decide), if_neg (by decide), if_neg (by decide), if_neg (by decide), if_neg (by decide), if_neg (by decide)]
    simp (disch := omega) only [lI_eq]
    by_cases h : x = y
    · rw [if_pos h]
      exact fin 27 1 (by decide) (by decide) (by simp [opQ, h])
    · rw [if_neg h]
      exact fin 27 0 (by decide) (by decide) (by simp [opQ, h])
abbrev K10 : Type := St → Int32 → Int32 → Int32 → Option (Unit × St)
def TwoR (t t' : St) (m : Nat) (o : Option Int) : Prop := Fm Srk t t' ∧ (∀ j, j < m → sl t' 21 j = sl t 21 j) ∧ match o with
  | none => si t' 0 39 = iI 1
  | some z => si t' 0 39 = iI 0 ∧ sl t' 21 m = lI z ∧ bnB z
theorem e_reck_two {k10 : K10} {t : St} {op arg x y : Int} {n k m : Nat} (hop : 20 ≤ op ∧ op ≤ 27) (hx : bnB x) (hy : bnB y) (hb : BkE t) (h1 : sl t 21 m = lI x) (h2 : sl t 21 (m + 1) = lI y) (hm : m + 2 ≤ 400) : ∃ t', F_X5_reckonAll_95 k10 t (iI n) (iI (m + 2 : Nat)) (iI k) (iI op) (iI arg) = k10 t' (iI n) (iI (m + 1 : Nat)) (iI (k + 1 : Nat)) ∧ TwoR t t' m (opM op x y) := by
  obtain ⟨t1, e1, f1, e2, hbr⟩ := e_X5_reckon (t := t) hop hx hy hb
  have hq := opQ_r (op := op) hx hy
  unfold F_X5_reckonAll_95
  rw [if_pos (by rw [k_20, iI_le (by omega) (by omega)]; omega), if_neg (by rw [k_28, iI_le (by omega) (by omega)]; omega)]
  simp only [k_1, iI_neg, iI_add, iI_sub]
  rw [show ((m + 2 : Nat) : Int) + -1 - 1 = (m : Int) by omega, show ((m + 2 : Nat) : Int) + -1 = ((m + 1 : Nat) : Int) by omega, show (k : Int) + 1 = ((k + 1 : Nat) : Int) by omega]
  rw [inb_g (by omega), inb_g (by omega), iI_nat (by omega), iI_nat (by omega), Int.toNat_natCast, Int.toNat_natCast, h1, h2, e1, bnd_s, inb_g (by omega), nam_v]
  have f2 : Fm Srk t1 (setL t1 21 m (lI (opQ op x y))) := Fm.setL (by unfold Srk; omega)
  have g1 : ∀ j, j < m → sl (setL t1 21 m (lI (opQ op x y))) 21 j = sl t 21 j := fun j hj => by rw [sl_set, if_pos rfl, if_neg (by omega), e2]
  have g2 : sl (setL t1 21 m (lI (opQ op x y))) 21 m = lI (opQ op x y) := by rw [sl_set, if_pos rfl, if_pos rfl]
  have g3 : si (setL t1 21 m (lI (opQ op x y))) 0 39 = si t1 0 39 := rfl
  rw [opM_q hop]
  by_cases h9 : opB op y
  · rw [if_neg (by rw [g3, hbr.1 h9]; decide), if_pos (show (op = 23 ∨ op = 24) ∧ y = 0 from h9)]
    unfold F_X5_reckonAll_262 F_X5_reckonAll_267
    rw [gd_ok (by decide), nam_v]
    exact ⟨_, rfl, (f1.tr f2).tr (Fm.set (by unfold Srk; omega)), g1, by rw [si_set, if_pos rfl, if_pos rfl]; rfl⟩
  · rw [if_pos (by rw [g3, hbr.2 h9]; rfl), if_neg (show ¬ ((op = 23 ∨ op = 24) ∧ y = 0) from h9), inb_g (by omega), g2, K_m1000000000, K_1000000000, e_X5_in _ (by omega) (by omega) (by omega), bnd_s]
    unfold lim
    by_cases h8 : -1000000000 ≤ opQ op x y ∧ opQ op x y ≤ 1000000000
    · rw [if_neg (by rw [k_0, bZ_i0]; exact fun z => z h8), if_neg (by omega)]
      unfold F_X5_reckonAll_267
      rw [gd_ok (by decide), nam_v]
      exact ⟨_, rfl, (f1.tr f2).tr (Fm.set (by unfold Srk; omega)), g1, by rw [si_set, if_pos rfl, if_pos rfl]; rfl, g2, h8⟩
    · rw [if_pos (by rw [k_0, bZ_i0]; exact h8), if_pos (by omega)]
      unfold F_X5_reckonAll_262 F_X5_reckonAll_267
      rw [gd_ok (by decide), nam_v]
      exact ⟨_, rfl, (f1.tr f2).tr (Fm.set (by unfold Srk; omega)), g1, by rw [si_set, if_pos rfl, if_pos rfl]; rfl⟩
/-- a leaf -/
theorem e_reck_leaf {ord : Bool} {k10 : K10} {t : St} {op arg : Int} {v : Nat → Int} {L n k m : Nat} {C : CD} (hC : CdE ord t L n C) (hV : VlE ord t v) (hl : lfOk ord op arg) (hm : m < 400) : F_X5_reckonAll_95 k10 t (iI n) (iI (m : Nat)) (iI k) (iI op) (iI arg) = k10 (setL t 21 m (lI (lfV ord v op arg))) (iI n) (iI (m + 1 : Nat)) (iI (k + 1 : Nat)) := by
  have key : ∀ z : Int, F_X5_reckonAll_189 k10 t (iI n) (iI (m : Nat)) (iI (k + 1 : Nat)) (lI z) (iI (m : Nat)) = k10 (setL t 21 m (lI z)) (iI n) (iI (m + 1 : Nat)) (iI (k + 1 : Nat)) := fun z => by
    unfold F_X5_reckonAll_189
    rw [inb_g (by omega), nam_v, iI_nat (by omega), Int.toNat_natCast, k_1, iI_add]
    rfl
  have hk1 : iI (k : Int) + 1 = iI ((k + 1 : Nat) : Int) := by rw [k_1, iI_add]; rfl
  unfold lfOk at hl
  unfold F_X5_reckonAll_95
  rw [if_neg (by rw [k_20, iI_le (by omega) (by omega)]; omega), hk1]
  unfold lfV
  by_cases h0 : op = 0
  · rw [if_pos (by rw [h0]; rfl), if_pos h0, iI_l (by omega), key]
  · rw [if_neg (by rw [k_0, iI_eq (by omega) (by omega)]; exact h0), if_neg h0]
    obtain ⟨-, hc2⟩ := hC
    obtain ⟨hv1, hv2⟩ := hV
    cases ord
    · have h3 : si t 0 21 = 0 := hc2.1
      have h4 : sl t 19 (op.toNat - 1 + 1) = lI (v (op.toNat - 1)) := hv2 _ (by omega)
      rw [show op.toNat - 1 + 1 = op.toNat by omega] at h4
      rw [if_pos h3, inb_g (by omega), iI_nat (by omega), h4, key, if_neg (by simp), if_neg (by simp)]
    · have h3 : ¬ si t 0 21 = 0 := by rw [hc2.1]; decide
      rw [if_neg h3]
      obtain ⟨hv3, w, hR, hW, hv4⟩ := hv2
      simp only [true_and]
      by_cases h4 : 4 ≤ op
      · have ha : 0 ≤ arg ∧ arg ≤ 5 := by simp at hl; omega
        have h5 := hv4 arg ha.1 ha.2
        have hN : si t 2 0 = iI (w 2 8) := hR 2 8 (by omega) (by show _ ∧ _; omega)
        have e3 : si t 2 (16 + 5 * arg).toNat = iI (w 3 arg) := hR 3 arg (by omega) (by show _ < _; omega)
        have e7 : si t 2 (17 + 5 * arg).toNat = iI (w 7 arg) := hR 7 arg (by omega) (by show _ < _; omega)
        have hic : F_X5_isCatcher t (iI arg) = some (iI (bZ (0 ≤ arg ∧ arg ≤ w 2 8 - 1)), t) := by
          unfold F_X5_isCatcher
          rw [k_0, inb_g (by omega), show (iI 0).toNatClampNeg = 0 from rfl, hN, iI_l (by omega), iI_l (by omega), K_1, K_0, lI_sub, e_X5_in _ (by omega) (by omega) (by omega), bnd_s, gd_ok (fits_z (bZ_01 _))]
        have hof : ∀ b : Int, b = 3 ∨ b = 4 → F_X5_ofCatcher t (iI arg) (iI b) = some (si t 2 (13 + 5 * arg + b).toNat, t) := fun b hb => by
          unfold F_X5_ofCatcher
          rw [k_13, k_5, iI_mul, iI_add, iI_add, inb_g (by omega), iI_nat (by omega)]
        rw [if_pos (by rw [k_4, iI_le (by omega) (by omega)]; omega), hic, bnd_s]
        by_cases h6 : arg < w 2 8
        · rw [if_neg (by rw [k_0, bZ_i0]; exact fun z => z (by omega))]
          unfold F_X5_reckonAll_185
          by_cases h7 : op = 4
          · rw [if_pos (by rw [h7]; rfl), if_pos h7, k_3, hof 3 (Or.inl rfl), bnd_s, h5.1, if_pos h6, show (13 + 5 * arg + 3).toNat = (16 + 5 * arg).toNat by omega, e3]
            have hb := hv1 (3 + arg.toNat)
            rw [h5.1, if_pos h6] at hb
            rw [iI_l (by omega), key]
          · rw [if_neg (by rw [k_4, iI_eq (by omega) (by omega)]; exact h7), if_neg h7, if_pos (show op = 5 by simp at hl; omega), k_4, hof 4 (Or.inr rfl), bnd_s, h5.2, if_pos h6, show (13 + 5 * arg + 4).toNat = (17 + 5 * arg).toNat by omega, e7]
            have hb := hv1 (9 + arg.toNat)
            rw [h5.2, if_pos h6] at hb
            rw [iI_l (by omega), key]
        · rw [if_pos (by rw [k_0, bZ_i0]; omega), K_m1, key]
          by_cases h7 : op = 4
          · rw [if_pos h7, h5.1, if_neg h6]
          · rw [if_neg h7, if_pos (show op = 5 by simp at hl; omega), h5.2, if_neg h6]
      · have h5 : 1 ≤ op ∧ op ≤ 3 := by simp at hl; omega
        have h6 : sl t 20 (op.toNat - 1 + 1) = lI (v (op.toNat - 1)) := hv3 _ (by omega)
        rw [show op.toNat - 1 + 1 = op.toNat by omega] at h6
        rw [if_neg (by rw [k_4, iI_le (by omega) (by omega)]; omega), inb_g (by omega), iI_nat (by omega), h6, key, if_neg (by omega), if_neg (by omega)]
theorem iI_su {a : Nat} : iI (a : Int) + 1 = iI ((a + 1 : Nat) : Int) := by rw [k_1, iI_add]; rfl
theorem tZ_01 (b : Bool) : tZ b = 0 ∨ tZ b = 1 := by cases b <;> simp [tZ]
theorem StkE.push {t : St} {st : List Int} {m : Nat} {x : Int} {z : Int64} (h : StkE t st) (hm : m = st.length) (hz : z = lI x) (hx : bnB x) : StkE (setL t 21 m z) (x :: st) := by
  subst hm
  subst hz
  refine ⟨by rw [sl_set, if_pos rfl, if_pos rfl], hx, h.go st (fun j hj => ?_)⟩
  rw [sl_set, if_pos rfl, if_neg (by omega)]
/-- the whole run -/
theorem e_reckF {ord : Bool} {v : Nat → Int} {C : CD} {n : Nat} : ∀ (m k : Nat) (st : List Int) (o : Option Int), RunF C ord v n m k st o → ∀ (t : St) (L fu : Nat), CdE ord t L n C → VlE ord t v → BkE t → StkE t st → st.length ≤ k → k ≤ n → n - k < fu → ∃ t', F_X5_reckonAll_10 fu t (iI n) (iI (st.length : Nat)) (iI k) = some ((), t') ∧ RkO t t' o := by
  intro m
  induction m with
  | zero => exact fun _ _ _ h => h.elim
  | succ m ih0 =>
  intro k st o hr
  rcases hr with ⟨hk, z, rfl, rfl⟩ | ⟨⟨hk, hlf⟩, hr⟩ | ⟨⟨hk, hop⟩, x, y, st, rfl, hr⟩ | ⟨⟨hk, hop⟩, x, st, rfl, hx, hr⟩ | ⟨hk, x, st, m2, rfl, hop, hm, hkm, hmn, hr⟩ | ⟨hk, x, st, rfl, hop, ha, hr⟩
  · intro t L fu hC hV hb hs hl hkn hfu
    obtain ⟨g, rfl⟩ : ∃ g, fu = g + 1 := ⟨fu - 1, by omega⟩
    have hn := hC.1
    obtain ⟨t', e, hf, h39, h40⟩ := e_reck_338 (t := t) (m := (([z] : List Int).length : Nat)) (by simp)
    refine ⟨t', by rw [e_reck_end (by omega) (by omega), e], hf, ?_, ?_⟩
    · rw [h39]; exact hb
    · rw [h40 (by simp)]; exact hs.1
  · have ih := ih0 _ _ _ hr
    intro t L fu hC hV hb hs hl hkn hfu
    obtain ⟨g, rfl⟩ : ∃ g, fu = g + 1 := ⟨fu - 1, by omega⟩
    have hn := hC.1
    have hF : Fm Srk t (setL t 21 st.length (lI (lfV ord v (C k).1 (C k).2))) := Fm.setL (by unfold Srk; omega)
    obtain ⟨t', e, hO⟩ := ih _ L g (hC.go hF) (hV.go hF) hb (hs.push rfl rfl (lfV_b hlf hV.1)) (by simp only [List.length_cons]; omega) (by omega) (by omega)
    refine ⟨t', ?_, hO.after hF⟩
    rw [e_reck_at hC hk hb, e_reck_leaf hC hV hlf (by omega)]
    exact e
  · cases hz : opM (C k).1 x y with
   | some z =>
    rw [hz] at hr
    have ih := ih0 _ _ _ hr
    intro t L fu hC hV hb hs hl hkn hfu
    obtain ⟨g, rfl⟩ : ∃ g, fu = g + 1 := ⟨fu - 1, by omega⟩
    have hn := hC.1
    simp only [List.length_cons] at hl
    obtain ⟨t1, e1, hF, hj, hR⟩ := e_reck_two (k10 := F_X5_reckonAll_10 g) (arg := (C k).2) (n := n) (k := k) hop hs.2.2.2.1 hs.2.1 hb hs.2.2.1 hs.1 (by omega)
    rw [hz] at hR
    obtain ⟨h39, h21, hzb⟩ := hR
    obtain ⟨t', e, hO⟩ := ih t1 L g (hC.go hF) (hV.go hF) h39 ⟨h21, hzb, hs.2.2.2.2.go st hj⟩ (by simp only [List.length_cons]; omega) (by omega) (by omega)
    refine ⟨t', ?_, hO.after hF⟩
    rw [e_reck_at hC hk hb]
    exact e1.trans e
   | none =>
    rw [hz] at hr
    subst hr
    intro t L fu hC hV hb hs hl hkn hfu
    obtain ⟨g, rfl⟩ : ∃ g, fu = g + 2 := by
      by_cases h : fu = 1
      · omega
      · exact ⟨fu - 2, by omega⟩
    have hn := hC.1
    simp only [List.length_cons] at hl
    obtain ⟨t1, e1, hF, hj, hR⟩ := e_reck_two (k10 := F_X5_reckonAll_10 (g + 1)) (arg := (C k).2) (n := n) (k := k) hop hs.2.2.2.1 hs.2.1 hb hs.2.2.1 hs.1 (by omega)
    rw [hz] at hR
    obtain ⟨t', e, hf, h39, -⟩ := e_reck_338 (t := t1) (m := ((st.length + 1 : Nat) : Int)) (by omega)
    refine ⟨t', ?_, hF.tr hf, by rw [h39]; exact hR⟩
    rw [e_reck_at hC hk hb]
    refine e1.trans ?_
    rw [e_reck_brk hR, e]
  · have ih := ih0 _ _ _ hr
    intro t L fu hC hV hb hs hl hkn hfu
    obtain ⟨g, rfl⟩ : ∃ g, fu = g + 1 := ⟨fu - 1, by omega⟩
    have hn := hC.1
    simp only [List.length_cons] at hl
    have hF : Fm Srk t (setL t 21 st.length (lI (1 - x))) := Fm.setL (by unfold Srk; omega)
    obtain ⟨t', e, hO⟩ := ih _ L g (hC.go hF) (hV.go hF) hb (hs.2.2.push rfl rfl (by unfold bnB; omega)) (by simp only [List.length_cons]; omega) (by omega) (by omega)
    refine ⟨t', ?_, hO.after hF⟩
    rw [e_reck_at hC hk hb, hop]
    unfold F_X5_reckonAll_95
    rw [if_pos (by decide), if_pos (by decide), if_pos (by decide)]
    simp only [List.length_cons, iI_su, k_1, iI_sub, K_1]
    rw [show ((st.length + 1 : Nat) : Int) - 1 = (st.length : Int) by omega, inb_g (by omega), inb_g (by omega), nam_v, iI_nat (by omega), Int.toNat_natCast, hs.1, lI_sub]
    rw [show iI (k : Int) + iI 1 = iI ((k + 1 : Nat) : Int) from iI_su]
    exact e
  · have ih := ih0 _ _ _ hr
    intro t L fu hC hV hb hs hl hkn hfu
    obtain ⟨g, rfl⟩ : ∃ g, fu = g + 1 := ⟨fu - 1, by omega⟩
    have hn := hC.1
    simp only [List.length_cons] at hl
    obtain ⟨t', e, hO⟩ := ih t L g hC hV hb hs (by simp only [List.length_cons]; omega) (by omega) (by omega)
    refine ⟨t', ?_, hO⟩
    have hx := hs.2.1
    unfold bnB at hx
    rw [e_reck_at hC hk hb]
    unfold F_X5_reckonAll_95
    rw [if_pos (by rw [k_20, iI_le (by omega) (by omega)]; omega), if_pos (by rw [k_28, iI_le (by omega) (by omega)]; omega), if_neg (by rw [k_28, iI_eq (by omega) (by omega)]; omega)]
    simp only [List.length_cons, k_1, iI_sub]
    rw [show ((st.length + 1 : Nat) : Int) - 1 = (st.length : Int) by omega, inb_g (by omega), iI_nat (by omega), Int.toNat_natCast, hs.1, hm]
    rcases hop with ⟨h1, rfl⟩ | ⟨h1, rfl⟩
    · rw [if_pos (by rw [h1]; rfl)]
      unfold F_X5_reckonAll_321
      rw [if_pos (by rfl)]
      exact e
    · rw [if_neg (by rw [h1]; decide)]
      unfold F_X5_reckonAll_321
      rw [if_pos (by rfl)]
      exact e
  · have ih := ih0 _ _ _ hr
    intro t L fu hC hV hb hs hl hkn hfu
    obtain ⟨g, rfl⟩ : ∃ g, fu = g + 1 := ⟨fu - 1, by omega⟩
    have hn := hC.1
    simp only [List.length_cons] at hl
    obtain ⟨t', e, hO⟩ := ih t L g hC hV hb hs.2.2 (by omega) (by omega) (by omega)
    refine ⟨t', ?_, hO⟩
    rw [e_reck_at hC hk hb]
    unfold F_X5_reckonAll_95
    rw [if_pos (by rw [k_20, iI_le (by omega) (by omega)]; omega), if_pos (by rw [k_28, iI_le (by omega) (by omega)]; omega), if_neg (by rw [k_28, iI_eq (by omega) (by omega)]; omega)]
    simp only [List.length_cons, k_1, iI_sub]
    rw [show ((st.length + 1 : Nat) : Int) - 1 = (st.length : Int) by omega, inb_g (by omega), iI_nat (by omega), Int.toNat_natCast, hs.1]
    have hs1 : iI ((st.length + 1 : Nat) : Int) + (-1) = iI (st.length : Int) := by rw [k_m1, iI_add]; congr 1; omega
    have hk1 : iI (k : Int) + iI 1 = iI ((k + 1 : Nat) : Int) := iI_su
    rcases hop with ⟨h1, rfl⟩ | ⟨h1, rfl⟩
    · rw [if_pos (by rw [h1]; rfl)]
      unfold F_X5_reckonAll_321
      rw [if_neg (by decide), hk1]
      refine Eq.trans ?_ e
      rw [← hs1]
    · rw [if_neg (by rw [h1]; decide)]
      unfold F_X5_reckonAll_321
      rw [if_neg (by decide), hk1]
      refine Eq.trans ?_ e
      rw [← hs1]
theorem e_reck {ord : Bool} {v : Nat → Int} {C : CD} {n k : Nat} {st : List Int} {o : Option Int} (hr : Run C ord v n k st o) : ∀ (t : St) (L fu : Nat), CdE ord t L n C → VlE ord t v → BkE t → StkE t st → st.length ≤ k → k ≤ n → n - k < fu → ∃ t', F_X5_reckonAll_10 fu t (iI n) (iI (st.length : Nat)) (iI k) = some ((), t') ∧ RkO t t' o := by
  obtain ⟨m, hr⟩ := hr
  exact e_reckF m k st o hr

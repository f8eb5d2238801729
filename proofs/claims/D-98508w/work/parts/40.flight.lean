set_option maxRecDepth 100000
/-! ===== the component: flights (cells and weights in their order), parts, chances ===== -/
abbrev FL : Type := List (Int × Int)
def sumW : FL → Int
  | [] => 0
  | x :: r => x.2 + sumW r
/-- a flight at a, its arrays at b and c -/
def FlE (s : St) (a b c : Nat) (fl : FL) : Prop := (sk s a).1 = 4 ∧ sr s a 0 = some b ∧ sr s a 1 = some c ∧ sk s b = (100, 9) ∧ sk s c = (100, 9) ∧ si s a 2 = iI fl.length ∧ si s a 3 = iI (sumW fl) ∧ fl.length ≤ 9 ∧ ∀ i x, fl[i]? = some x → si s b i = iI x.1 ∧ si s c i = iI x.2 ∧ (-1 ≤ x.1 ∧ x.1 ≤ 35) ∧ (0 ≤ x.2 ∧ x.2 ≤ 9)
def wOf (cell : Int) : FL → Int
  | [] => 0
  | x :: r => (if x.1 = cell then x.2 else 0) + wOf cell r
theorem drop_cons {α : Type} {l : List α} {i : Nat} (h : i < l.length) : ∃ x, l[i]? = some x ∧ l.drop i = x :: l.drop (i + 1) :=
  ⟨l[i], List.getElem?_eq_getElem h, List.drop_eq_getElem_cons h⟩
theorem e_X4_weightOf_4 {s : St} {a b c : Nat} {fl : FL} (hF : FlE s a b c fl) {cell : Int} (hc : -1 ≤ cell ∧ cell ≤ 35) : ∀ (j i : Nat) (z : Int), fl.length = j + i → ∀ fu, j < fu → F_X4_weightOf_4 fu s (some a) (iI cell) (iI z) (iI i) = some (iI (z + wOf cell (fl.drop i)), s) := by
  obtain ⟨f1, f2, f3, f4, f5, f6, f7, f8, f9⟩ := hF
  intro j
  induction j with
  | zero =>
    intro i z hi fu hfu
    obtain ⟨g, rfl⟩ : ∃ g, fu = g + 1 := ⟨fu - 1, by omega⟩
    simp only [F_X4_weightOf_4]
    rw [drf_s, isK_g f1, f6, if_pos (by rw [iI_le (by omega) (by omega)]; omega), List.drop_eq_nil_of_le (by omega), wOf, Int.add_zero]
  | succ j ih =>
    intro i z hi fu hfu
    obtain ⟨g, rfl⟩ : ∃ g, fu = g + 1 := ⟨fu - 1, by omega⟩
    obtain ⟨x, hx, hd⟩ := drop_cons (l := fl) (i := i) (by omega)
    obtain ⟨q1, q2, q3, q4⟩ := f9 i x hx
    have h4 : iI (i : Int) + 1 = iI ((i + 1 : Nat) : Int) := by
      rw [k_1, iI_add]
      rfl
    simp only [F_X4_weightOf_4]
    rw [drf_s, isK_g f1, f6, if_neg (by rw [iI_le (by omega) (by omega)]; omega), drf_s, isK_g f1, f2, drf_s, isK_g (by rw [f4]), f4, inb_g (by omega), iI_nat (by omega), Int.toNat_natCast, q1, drf_s, isK_g f1, f3, drf_s, isK_g (by rw [f5]), f5, inb_g (by omega), q2, nam_v, h4, k_0, iI_add, iI_add, hd, wOf]
    by_cases e : x.1 = cell
    · rw [if_pos (by rw [e]), if_pos e, ih (i + 1) _ (by omega) g (by omega), Int.add_assoc]
    · rw [if_neg (by rw [iI_eq (by omega) (by omega)]; exact e), if_neg e, ih (i + 1) _ (by omega) g (by omega), Int.add_assoc]
theorem e_X4_weightOf {s : St} {a b c : Nat} {fl : FL} (hF : FlE s a b c fl) {cell : Int} (hc : -1 ≤ cell ∧ cell ≤ 35) : F_X4_weightOf s a (iI cell) = some (iI (wOf cell fl), s) := by
  have hl : fl.length ≤ 9 := hF.2.2.2.2.2.2.2.1
  have := e_X4_weightOf_4 hF hc fl.length 0 0 (by omega) FU (FU_ge (by omega))
  rw [Int.zero_add] at this
  exact this
theorem sumW_r {fl : FL} : (∀ x ∈ fl, 0 ≤ x.2 ∧ x.2 ≤ 9) → 0 ≤ sumW fl ∧ sumW fl ≤ 9 * fl.length := by
  induction fl with
  | nil => intro _; exact ⟨Int.le_refl _, by simp [sumW]⟩
  | cons x r ih =>
    intro h
    have h1 := h x List.mem_cons_self
    have h2 := ih (fun y hy => h y (List.mem_cons_of_mem _ hy))
    rw [sumW, List.length_cons]
    omega
theorem FlE.sum {s : St} {a b c : Nat} {fl : FL} (h : FlE s a b c fl) : 0 ≤ sumW fl ∧ sumW fl ≤ 81 := by
  obtain ⟨-, -, -, -, -, -, -, f8, f9⟩ := h
  have := sumW_r (fl := fl) (fun x hx => by
    obtain ⟨i, hi⟩ := List.mem_iff_getElem?.mp hx
    exact (f9 i x hi).2.2.2)
  omega
theorem e_X4_lower {s : St} {a b c : Nat} {fl : FL} (h : FlE s a b c fl) : F_X4_lower s a = some (lI (60 * sumW fl), s) := by
  have hs := h.sum
  unfold F_X4_lower
  rw [isK_g h.1, h.2.2.2.2.2.2.1, iI_l (by omega), K_60, lI_mul]
/-! who has what comes in a cell -/
/-- grips as they are cached: of the catcher c at the distance f -/
def GrE (s : St) (w : WR) (ls : List (List DC)) (n : Int) : Prop := ∀ c f, 0 ≤ c → c < n → 0 ≤ f → f ≤ 10 → si s 27 (11 * c + f).toNat = iI (gripZ w ls c f)
def gripsZ (w : WR) (ls : List (List DC)) (c at_ cell : Int) : Int := if 0 < w 5 c ∧ farZ at_ cell ≤ w 4 c then gripZ w ls c (farZ at_ cell) else -1
theorem gripZ_r {w : WR} {ls : List (List DC)} (hW : Wf w ls) {c f : Int} (hc : 0 ≤ c ∧ c < 6) : 0 ≤ gripZ w ls c f ∧ gripZ w ls c f ≤ 99 := by
  have := hW.cat hc.1 hc.2
  unfold gripZ
  split
  · omega
  · split
    · omega
    · exact nearZ_r (by decide)
theorem gripsZ_r {w : WR} {ls : List (List DC)} (hW : Wf w ls) {c a cell : Int} (hc : 0 ≤ c ∧ c < 6) : -1 ≤ gripsZ w ls c a cell ∧ gripsZ w ls c a cell ≤ 99 := by
  unfold gripsZ
  split
  · have := gripZ_r hW (f := farZ a cell) hc
    omega
  · omega
theorem e_X0_gripsOf {s : St} {w : WR} {ls : List (List DC)} (hR : RCi s w) (hW : Wf w ls) {n : Int} (hG : GrE s w ls n) {c a cell : Int} (hc : 0 ≤ c ∧ c < n) (hn : n ≤ 6) (ha : 0 ≤ a ∧ a ≤ 35) (hl : 0 ≤ cell ∧ cell ≤ 35) : F_X0_gripsOf s (iI c) (iI a) (iI cell) = some (iI (gripsZ w ls c a cell), s) := by
  have hk := hW.cat (c := c) (by omega) (by omega)
  have hf := farZ_r ha hl
  unfold F_X0_gripsOf gripsZ
  rw [e_X0_far s ha hl, bnd_s, inb_g (by omega), inb_g (by omega), iI_nat (by omega), hR 5 c hc.1 (by show _ < _; omega), hR 4 c hc.1 (by show _ < _; omega), k_0, k_m1, k_11, iI_mul, iI_add, inb_g (by omega), iI_nat (by omega), hG c (farZ a cell) hc.1 hc.2 hf.1 hf.2]
  by_cases h1 : w 5 c ≤ 0
  · rw [if_pos (by rw [iI_le (by omega) (by omega)]; exact h1), if_neg (by omega)]
  · rw [if_neg (by rw [iI_le (by omega) (by omega)]; exact h1)]
    by_cases h2 : w 4 c < farZ a cell
    · rw [if_pos (by rw [iI_lt (by omega) (by omega)]; exact h2), if_neg (by omega)]
    · rw [if_neg (by rw [iI_lt (by omega) (by omega)]; exact h2), if_pos (by omega)]
/-- the hardest grip, how many grip so, the first of them: from c on, k catchers -/
def bestF (w : WR) (ls : List (List DC)) (f : Int → Int) (cell : Int) : Nat → Int → Int × Int × Int → Int × Int × Int
  | 0, _, q => q
  | k + 1, c, q =>
    let g := gripsZ w ls c (f c) cell
    bestF w ls f cell k (c + 1) (if g = -1 ∨ g < q.1 then q else if q.1 < g then (g, 1, c) else (g, q.2.1 + 1, q.2.2))
def bestI (w : WR) (ls : List (List DC)) (n : Int) (f : Int → Int) (cell : Int) : Int × Int × Int := bestF w ls f cell n.toNat 0 (-1, 0, -1)
def lostP (w : WR) (q : Int × Int × Int) : Prop := q.2.1 = 0 ∨ (1 < q.2.1 ∧ 1 < w 8 5)
noncomputable def partQ (w : WR) (ls : List (List DC)) (c : Int) (f : Int → Int) (cell : Int) (q : Int × Int × Int) : Int :=
  if c = -1 then @ite _ (lostP w q) (Classical.propDecidable _) 60 0
  else @ite _ (lostP w q) (Classical.propDecidable _) 0
    (if q.2.1 = 1 ∨ w 8 5 = 1 then (if c = q.2.2 then 60 else 0) else if gripsZ w ls c (f c) cell = q.1 then 60 / q.2.1 else 0)
noncomputable def partZ (w : WR) (ls : List (List DC)) (n c : Int) (f : Int → Int) (cell : Int) : Int :=
  if cell = -1 then (if c = -1 then 60 else 0) else partQ w ls c f cell (bestI w ls n f cell)
theorem e_X0_partOf_119 {s : St} {w : WR} {ls : List (List DC)} (hR : RCi s w) (hW : Wf w ls) {n : Int} (hG : GrE s w ls n) (hn : 0 ≤ n ∧ n ≤ 6) {a : Nat} {f : Int → Int} (hk : sk s a = (100, 6)) (hf : ∀ c, 0 ≤ c → c < 6 → si s a c.toNat = iI (f c) ∧ 0 ≤ f c ∧ f c ≤ 35) {c cell : Int} (hc : c = -1 ∨ (0 ≤ c ∧ c < n)) (hl : 0 ≤ cell ∧ cell ≤ 35) {q : Int × Int × Int} (h1 : -1 ≤ q.1 ∧ q.1 ≤ 99) (h2 : 0 ≤ q.2.1 ∧ q.2.1 ≤ 6) (h3 : -1 ≤ q.2.2 ∧ q.2.2 ≤ 6) : F_X0_partOf_119 s (iI c) (some a) (iI cell) (iI q.1) (iI q.2.1) (iI q.2.2) (iI (bZ (lostP w q))) = some (iI (partQ w ls c f cell q), s) := by
  have ht := hW.trm
  unfold F_X0_partOf_119 F_X0_partOf_131 F_X0_partOf_163 partQ
  rw [k_m1, k_0, k_60, k_1, k_5]
  by_cases hl2 : lostP w q
  · have e : ¬ iI (bZ (lostP w q)) = iI 0 := by rw [bZ_i0]; exact fun z => z hl2
    by_cases c1 : c = -1
    · rw [if_pos (by rw [c1]), if_pos c1, if_pos (by rw [c1]), if_neg e, if_pos hl2]
    · have c2 : ¬ iI c = iI (-1) := by rw [iI_eq (by omega) (by omega)]; exact c1
      rw [if_neg c2, if_neg c1, if_neg e, if_neg c2, if_pos hl2]
  · have e : iI (bZ (lostP w q)) = iI 0 := by rw [bZ_i0]; exact hl2
    by_cases c1 : c = -1
    · rw [if_pos (by rw [c1]), if_pos c1, if_pos (by rw [c1]), if_pos e, if_neg hl2]
    · have c2 : ¬ iI c = iI (-1) := by rw [iI_eq (by omega) (by omega)]; exact c1
      have h0 : q.2.1 ≠ 0 := fun z => hl2 (Or.inl z)
      rw [if_neg c2, if_neg c1, if_pos e, if_neg hl2, e_X0_term hR (by omega), bnd_s]
      have e163 : (if iI c = iI q.2.2 then (some (iI 60, s) : Option (Int32 × St)) else some (iI 0, s)) = some (iI (if c = q.2.2 then 60 else 0), s) := by
        by_cases d : c = q.2.2
        · rw [if_pos (by rw [d]), if_pos d]
        · rw [if_neg (by rw [iI_eq (by omega) (by omega)]; exact d), if_neg d]
      rw [e163]
      by_cases d1 : q.2.1 = 1
      · rw [if_pos (by rw [d1]), if_pos (Or.inl d1)]
      · rw [if_neg (by rw [iI_eq (by omega) (by omega)]; exact d1)]
        by_cases d2 : w 8 5 = 1
        · rw [if_pos (by rw [d2]), if_pos (Or.inr d2)]
        · have hfc := hf c (by omega) (by omega)
          have hg := gripsZ_r hW (ls := ls) (c := c) (a := f c) (cell := cell) (by omega)
          rw [if_neg (by rw [iI_eq (by omega) (by omega)]; exact d2), if_neg (fun z => z.elim d1 d2), drf_s, isK_g (by rw [hk]), hk, inb_g (by omega), iI_nat (by omega), hfc.1, e_X0_gripsOf hR hW hG (by omega) hn.2 hfc.2 hl, bnd_s, gd_ok (nzi_t h0 (by omega)), iI_divn (by omega) (by omega)]
          by_cases d3 : gripsZ w ls c (f c) cell = q.1
          · rw [if_pos (by rw [d3]), if_pos d3]
          · rw [if_neg (by rw [iI_eq (by omega) (by omega)]; exact d3), if_neg d3]
theorem e_X0_partOf_29 {s : St} {w : WR} {ls : List (List DC)} (hR : RCi s w) (hW : Wf w ls) {n : Int} (hG : GrE s w ls n) (hn : 0 ≤ n ∧ n ≤ 6) (h20 : si s 0 20 = iI n) {a : Nat} {f : Int → Int} (hk : sk s a = (100, 6)) (hf : ∀ c, 0 ≤ c → c < 6 → si s a c.toNat = iI (f c) ∧ 0 ≤ f c ∧ f c ≤ 35) {c cell : Int} (hc : c = -1 ∨ (0 ≤ c ∧ c < n)) (hl : 0 ≤ cell ∧ cell ≤ 35) : ∀ (k : Nat) (i : Int) (q : Int × Int × Int), 0 ≤ i → n = k + i → (-1 ≤ q.1 ∧ q.1 ≤ 99) → (0 ≤ q.2.1 ∧ q.2.1 ≤ i) → (-1 ≤ q.2.2 ∧ q.2.2 ≤ 6) → ∀ fu, k < fu → F_X0_partOf_29 fu s (iI c) (some a) (iI cell) (iI q.1) (iI q.2.1) (iI q.2.2) (iI i) = some (iI (partQ w ls c f cell (bestF w ls f cell k i q)), s) := by
  have ht := hW.trm
  intro k
  induction k with
  | zero =>
    intro i q h0 hi h1 h2 h3 fu hfu
    obtain ⟨g, rfl⟩ : ∃ g, fu = g + 1 := ⟨fu - 1, by omega⟩
    have tail := e_X0_partOf_119 hR hW hG hn hk hf hc hl h1 ⟨h2.1, by omega⟩ h3
    simp only [F_X0_partOf_29, F_X0_partOf_114, F_X0_partOf_118]
    rw [h20, if_pos (by rw [iI_le (by omega) (by omega)]; omega), k_0, k_1, k_5, e_X0_term hR (by omega), bnd_s]
    show _ = some (iI (partQ w ls c f cell q), s)
    by_cases d0 : q.2.1 = 0
    · rw [if_pos (by rw [d0]), ← tail, bZ_t (show lostP w q from Or.inl d0)]
    · rw [if_neg (by rw [iI_eq (by omega) (by omega)]; exact d0)]
      by_cases d1 : q.2.1 ≤ 1
      · rw [if_pos (by rw [iI_le (by omega) (by omega)]; exact d1), ← tail, bZ_f (fun z => by unfold lostP at z; omega)]
      · rw [if_neg (by rw [iI_le (by omega) (by omega)]; exact d1)]
        by_cases d2 : w 8 5 ≤ 1
        · rw [if_pos (by rw [iI_le (by omega) (by omega)]; exact d2), ← tail, bZ_f (fun z => by unfold lostP at z; omega)]
        · rw [if_neg (by rw [iI_le (by omega) (by omega)]; exact d2), ← tail, bZ_t (show lostP w q from Or.inr ⟨by omega, by omega⟩)]
  | succ k ih =>
    intro i q h0 hi h1 h2 h3 fu hfu
    obtain ⟨g, rfl⟩ : ∃ g, fu = g + 1 := ⟨fu - 1, by omega⟩
    have hfc := hf i (by omega) (by omega)
    have hg := gripsZ_r hW (ls := ls) (c := i) (a := f i) (cell := cell) (by omega)
    simp only [F_X0_partOf_29, F_X0_partOf_81]
    rw [h20, if_neg (by rw [iI_le (by omega) (by omega)]; omega), drf_s, isK_g (by rw [hk]), hk, inb_g (by omega), iI_nat (by omega), hfc.1, e_X0_gripsOf hR hW hG (by omega) hn.2 hfc.2 hl, bnd_s, k_m1, k_0, k_1, iI_add, iI_add, iI_add, bestF]
    by_cases d0 : gripsZ w ls i (f i) cell = -1
    · rw [if_pos (by rw [d0]), if_pos (Or.inl d0)]
      exact ih (i + 1) q (by omega) (by omega) h1 (by omega) h3 g (by omega)
    · rw [if_neg (by rw [iI_eq (by omega) (by omega)]; exact d0)]
      by_cases d1 : q.1 ≤ gripsZ w ls i (f i) cell
      · rw [if_pos (by rw [iI_le (by omega) (by omega)]; exact d1), if_neg (show ¬ (gripsZ w ls i (f i) cell = -1 ∨ gripsZ w ls i (f i) cell < q.1) by omega)]
        by_cases d2 : gripsZ w ls i (f i) cell ≤ q.1
        · rw [if_pos (by rw [iI_le (by omega) (by omega)]; exact d2), if_neg (show ¬ q.1 < gripsZ w ls i (f i) cell by omega)]
          exact ih (i + 1) (gripsZ w ls i (f i) cell, q.2.1 + 1, q.2.2) (by omega) (by omega) (show -1 ≤ gripsZ w ls i (f i) cell ∧ gripsZ w ls i (f i) cell ≤ 99 by omega) (show 0 ≤ q.2.1 + 1 ∧ q.2.1 + 1 ≤ i + 1 by omega) h3 g (by omega)
        · rw [if_neg (by rw [iI_le (by omega) (by omega)]; exact d2), if_pos (show q.1 < gripsZ w ls i (f i) cell by omega), show (0 + 1 : Int) = 1 by omega]
          exact ih (i + 1) (gripsZ w ls i (f i) cell, 1, i) (by omega) (by omega) (show -1 ≤ gripsZ w ls i (f i) cell ∧ gripsZ w ls i (f i) cell ≤ 99 by omega) (show 0 ≤ (1 : Int) ∧ (1 : Int) ≤ i + 1 by omega) (show -1 ≤ i ∧ i ≤ 6 by omega) g (by omega)
      · rw [if_neg (by rw [iI_le (by omega) (by omega)]; exact d1), if_pos (Or.inr (by omega))]
        exact ih (i + 1) q (by omega) (by omega) h1 (by omega) h3 g (by omega)
theorem e_X0_partOf {s : St} {w : WR} {ls : List (List DC)} (hR : RCi s w) (hW : Wf w ls) {n : Int} (hG : GrE s w ls n) (hn : 0 ≤ n ∧ n ≤ 6) (h20 : si s 0 20 = iI n) {a : Nat} {f : Int → Int} (hk : sk s a = (100, 6)) (hf : ∀ c, 0 ≤ c → c < 6 → si s a c.toNat = iI (f c) ∧ 0 ≤ f c ∧ f c ≤ 35) {c cell : Int} (hc : c = -1 ∨ (0 ≤ c ∧ c < n)) (hl : -1 ≤ cell ∧ cell ≤ 35) : F_X0_partOf s (iI c) (some a) (iI cell) = some (iI (partZ w ls n c f cell), s) := by
  unfold F_X0_partOf partZ
  rw [k_m1, k_0, k_60]
  by_cases h : cell = -1
  · rw [if_pos (by rw [h]), if_pos h]
    by_cases c1 : c = -1
    · rw [if_pos (by rw [c1]), if_pos c1]
    · rw [if_neg (by rw [iI_eq (by omega) (by omega)]; exact c1), if_neg c1]
  · rw [if_neg (by rw [iI_eq (by omega) (by omega)]; exact h), if_neg h]
    exact e_X0_partOf_29 hR hW hG hn h20 hk hf hc (by omega) n.toNat 0 (-1, 0, -1) (by omega) (by omega) (by decide) (by decide) (by decide) FU (FU_ge (by omega))
noncomputable def chF (w : WR) (ls : List (List DC)) (n c : Int) (f : Int → Int) : FL → Int
  | [] => 0
  | x :: r => x.2 * partZ w ls n c f x.1 + chF w ls n c f r
theorem bestF_r {w : WR} {ls : List (List DC)} {f : Int → Int} {cell : Int} : ∀ (k : Nat) (i : Int) (q : Int × Int × Int), 0 ≤ q.2.1 → 0 ≤ (bestF w ls f cell k i q).2.1
  | 0, _, _, h => h
  | k + 1, i, q, h => by
    unfold bestF
    refine bestF_r k (i + 1) _ ?_
    split
    · exact h
    · split
      · show 0 ≤ (1 : Int)
        decide
      · show 0 ≤ q.2.1 + 1
        omega
theorem partQ_r {w : WR} {ls : List (List DC)} {c : Int} {f : Int → Int} {cell : Int} {q : Int × Int × Int} (h : 0 ≤ q.2.1) : 0 ≤ partQ w ls c f cell q ∧ partQ w ls c f cell q ≤ 60 := by
  unfold partQ
  split
  · split <;> omega
  · split
    · omega
    · split
      · split <;> omega
      · split
        · exact ⟨Int.ediv_nonneg (by decide) h, Int.ediv_le_self _ (by decide)⟩
        · omega
theorem partZ_r {w : WR} {ls : List (List DC)} {n c : Int} {f : Int → Int} {cell : Int} : 0 ≤ partZ w ls n c f cell ∧ partZ w ls n c f cell ≤ 60 := by
  unfold partZ
  split
  · split <;> omega
  · exact partQ_r (bestF_r _ _ _ (by decide))
theorem e_X0_chance_6 {s : St} {w : WR} {ls : List (List DC)} (hR : RCi s w) (hW : Wf w ls) {n : Int} (hG : GrE s w ls n) (hn : 0 ≤ n ∧ n ≤ 6) (h20 : si s 0 20 = iI n) {a p b c0 : Nat} {fl : FL} (hF : FlE s p b c0 fl) {f : Int → Int} (hk : sk s a = (100, 6)) (hf : ∀ c, 0 ≤ c → c < 6 → si s a c.toNat = iI (f c) ∧ 0 ≤ f c ∧ f c ≤ 35) {c : Int} (hc : c = -1 ∨ (0 ≤ c ∧ c < n)) : ∀ (j i : Nat) (z : Int), fl.length = j + i → ∀ fu, j < fu → F_X0_chance_6 fu s (iI c) (some p) (some a) (lI z) (iI i) = some (lI (z + chF w ls n c f (fl.drop i)), s) := by
  obtain ⟨f1, f2, f3, f4, f5, f6, f7, f8, f9⟩ := hF
  intro j
  induction j with
  | zero =>
    intro i z hi fu hfu
    obtain ⟨g, rfl⟩ : ∃ g, fu = g + 1 := ⟨fu - 1, by omega⟩
    simp only [F_X0_chance_6]
    rw [drf_s, isK_g f1, f6, if_pos (by rw [iI_le (by omega) (by omega)]; omega), List.drop_eq_nil_of_le (by omega), chF, Int.add_zero]
  | succ j ih =>
    intro i z hi fu hfu
    obtain ⟨g, rfl⟩ : ∃ g, fu = g + 1 := ⟨fu - 1, by omega⟩
    obtain ⟨x, hx, hd⟩ := drop_cons (l := fl) (i := i) (by omega)
    obtain ⟨q1, q2, q3, q4⟩ := f9 i x hx
    have hp := partZ_r (w := w) (ls := ls) (n := n) (c := c) (f := f) (cell := x.1)
    have h4 : iI (i : Int) + 1 = iI ((i + 1 : Nat) : Int) := by
      rw [k_1, iI_add]
      rfl
    simp only [F_X0_chance_6]
    rw [drf_s, isK_g f1, f6, if_neg (by rw [iI_le (by omega) (by omega)]; omega), drf_s, isK_g f1, f3, drf_s, isK_g (by rw [f5]), f5, inb_g (by omega), drf_s, isK_g f1, f2, drf_s, isK_g (by rw [f4]), f4, inb_g (by omega), iI_nat (by omega), Int.toNat_natCast, q1, q2, e_X0_partOf hR hW hG hn h20 hk hf hc q3, bnd_s, nam_v, h4, iI_l (by omega), iI_l (by omega), lI_mul, lI_add, ih (i + 1) _ (by omega) g (by omega), hd, chF, Int.add_assoc]
theorem e_X0_chance {s : St} {w : WR} {ls : List (List DC)} (hR : RCi s w) (hW : Wf w ls) {n : Int} (hG : GrE s w ls n) (hn : 0 ≤ n ∧ n ≤ 6) (h20 : si s 0 20 = iI n) {a p b c0 : Nat} {fl : FL} (hF : FlE s p b c0 fl) {f : Int → Int} (hk : sk s a = (100, 6)) (hf : ∀ c, 0 ≤ c → c < 6 → si s a c.toNat = iI (f c) ∧ 0 ≤ f c ∧ f c ≤ 35) {c : Int} (hc : c = -1 ∨ (0 ≤ c ∧ c < n)) : F_X0_chance s (iI c) (some p) (some a) = some (lI (chF w ls n c f fl), s) := by
  have hl : fl.length ≤ 9 := hF.2.2.2.2.2.2.2.1
  have := e_X0_chance_6 hR hW hG hn h20 hF hk hf hc fl.length 0 0 (by omega) FU (FU_ge (by omega))
  rw [Int.zero_add] at this
  exact this

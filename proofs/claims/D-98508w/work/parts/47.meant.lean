set_option maxRecDepth 100000
/-! ===== the component: whom she meant; what fits the films ===== -/
noncomputable def mtU (w : WR) (ls : List (List DC)) (cell j : Int) : Int := wOf cell (thL w ls j)
noncomputable def mtL (w : WR) (ls : List (List DC)) (j : Int) : Int := sumW (thL w ls j)
theorem mt_mx {w : WR} {ls : List (List DC)} (hW : Wf w ls) {cell : Int} : mxU (mtU w ls cell) (mtL w ls) := fun j => by
  have h1 := laysL_mem hW (f := 1 + j / 5) (sd := j % 5 - 2)
  have h2 := laysL_sum hW (f := 1 + j / 5) (sd := j % 5 - 2)
  have h3 := wOf_r (cell := cell) (fl := laysL w ls (1 + j / 5) (j % 5 - 2)) fun x hx => (h1.2 x hx).2
  unfold mtU mtL thL
  omega
/-- who has most so far: from c on, n of them -/
noncomputable def whoM (w : WR) (ls : List (List DC)) (fl : FL) : Nat → Int → Int × Int → Int × Int
  | 0, _, q => q
  | n + 1, c, q => whoM w ls fl n (c + 1) (if q.2 < chF w ls (w 2 8) c (w 3) fl then (c, chF w ls (w 2 8) c (w 3) fl) else q)
theorem e_X0_meant_122 {D : Nat → Prop} {w : WR} {ls : List (List DC)} (hW : Wf w ls) {A : Nat} {b : Int} (hb : 0 ≤ b ∧ b < 25) : ∀ (n : Nat) (c : Int) (s : St) (q : Int × Int), LkA D s w ls A → 0 ≤ c → w 2 8 = n + c → (-1 ≤ q.1 ∧ q.1 < c) → (0 ≤ q.2 ∧ q.2 ≤ 1000000) → ∀ fu, n < fu → F_X0_meant_122 fu s (iI b) (iI q.1) (lI q.2) (iI c) = some (lI (whoM w ls (thL w ls b) n c q).1, s) := by
  have hm := hW.1
  intro n
  induction n with
  | zero =>
    intro c s q hL h0 hn h1 h2 fu hfu
    obtain ⟨fu, rfl⟩ : ∃ g, fu = g + 1 := ⟨fu - 1, by omega⟩
    rw [F_X0_meant_122]
    show (if si s 2 8 ≤ iI c then _ else _) = _
    rw [hL.1.1.2.1.many, if_pos (by rw [iI_le (by omega) (by omega)]; omega), iI_l (by omega)]
    rfl
  | succ n ih =>
    intro c s q hL h0 hn h1 h2 fu hfu
    obtain ⟨fu, rfl⟩ : ∃ g, fu = g + 1 := ⟨fu - 1, by omega⟩
    obtain ⟨g1, g2, g3, g4⟩ := e_X0_fl (α := Int64 × St) (j := b) hb hL.2.2
    have hch := g2.cO (w := w) (ls := ls) (n := w 2 8) (c := c) (f := w 3)
    have hs := g2.sum
    rw [F_X0_meant_122]
    show (if si s 2 8 ≤ iI c then _ else _) = _
    rw [hL.1.1.2.1.many, if_neg (by rw [iI_le (by omega) (by omega)]; omega), g4, g1, hL.1.chance3 hW g2 (Or.inr ⟨h0, by omega⟩), bnd_s, k_1, iI_add, whoM]
    by_cases h : q.2 < chF w ls (w 2 8) c (w 3) (thL w ls b)
    · rw [if_pos (by rw [lI_lt (by omega) (by omega)]; exact h), if_pos h]
      exact ih (c + 1) s (c, chF w ls (w 2 8) c (w 3) (thL w ls b)) hL (by omega) (by omega) (show -1 ≤ c ∧ c < c + 1 by omega) (show 0 ≤ chF w ls (w 2 8) c (w 3) (thL w ls b) ∧ chF w ls (w 2 8) c (w 3) (thL w ls b) ≤ 1000000 by omega) fu (by omega)
    · rw [if_neg (by rw [lI_lt (by omega) (by omega)]; exact h), if_neg h]
      exact ih (c + 1) s q hL (by omega) (by omega) (by omega) h2 fu (by omega)
noncomputable def mtZ (w : WR) (ls : List (List DC)) (what : Int) (q : Int × Int × Int) : Int := if q.1 = -1 then -1 else if what < 4 then frZ q.1 what q.2 else (whoM w ls (thL w ls q.1) (w 2 8).toNat 0 (-1, 0)).1
theorem e_X0_meant_39 {D : Nat → Prop} {w : WR} {ls : List (List DC)} (hW : Wf w ls) {A : Nat} {cell what : Int} (hc : 0 ≤ cell ∧ cell ≤ 35) (hw : 0 ≤ what ∧ what ≤ 4) : ∀ (n : Nat) (j : Int) (s : St) (q : Int × Int × Int), LkA D s w ls A → BsE s q.2 → mxO q → 0 ≤ q.2.1 → 0 ≤ j → 25 = n + j → (-1 ≤ q.1 ∧ q.1 ≤ 24) → ∀ fu, n < fu → ∃ s1, F_X0_meant_39 fu s (iI cell) (iI what) (iI q.1) (iI j) = some (lI (mtZ w ls what (mxF (mtU w ls cell) (mtL w ls) n j q)), s1) ∧ C0 D s1 w ls ∧ Fr n28 s s1 := by
  have hm := hW.1
  intro n
  induction n with
  | zero =>
    intro j s q hL hB hq h0 hj hn h1 fu hfu
    obtain ⟨fu, rfl⟩ : ∃ g, fu = g + 1 := ⟨fu - 1, by omega⟩
    refine ⟨s, ?_, hL.1.1, Fr.rf⟩
    rw [F_X0_meant_39, mxF]
    show (if (25 : Int32) ≤ iI j then _ else _) = _
    unfold F_X0_meant_95 mtZ
    rw [k_25, if_pos (by rw [iI_le (by omega) (by omega)]; omega), k_m1, K_m1, k_4, k_0, K_0]
    by_cases a : q.1 = -1
    · rw [if_pos (by rw [a]), if_pos (by rw [a]), if_pos a]
    · rw [if_neg (by rw [iI_eq (by omega) (by omega)]; exact a), if_neg a]
      by_cases b : what < 4
      · rw [if_neg (by rw [iI_le (by omega) (by omega)]; omega), if_neg (by rw [iI_eq (by omega) (by omega)]; exact a), if_pos b, e_X0_friendOf s hB ⟨h0, hq.1.2⟩ hq.2 (by omega) (by omega), bnd_s]
      · rw [if_pos (by rw [iI_le (by omega) (by omega)]; omega), if_neg b]
        exact e_X0_meant_122 hW (by omega) (w 2 8).toNat 0 s (-1, 0) hL (by omega) (by omega) (by decide) (by decide) FU (FU_ge (by omega))
  | succ n ih =>
    intro j s q hL hB hq h0 hj hn h1 fu hfu
    obtain ⟨fu, rfl⟩ : ∃ g, fu = g + 1 := ⟨fu - 1, by omega⟩
    obtain ⟨f1, f2, f3, f4⟩ := e_X0_fl (α := Int64 × St) (j := j) (by omega) hL.2.2
    have hu := mt_mx hW (cell := cell)
    have hj2 := hu j
    have hst := mxO.step hu hq (j := j)
    obtain ⟨s1, e1, c1, b1, r1⟩ := e_X0_isMore hL.1.1 hB (u := mtU w ls cell j) (l := mtL w ls j) (by omega) (by omega) (by have := hq.1; omega) (by have := hq.2; omega)
    have hL1 := hL.go r1.n2 c1
    rw [F_X0_meant_39]
    show ∃ s1, (if (25 : Int32) ≤ iI j then _ else _) = _ ∧ _
    rw [k_25, if_neg (by rw [iI_le (by omega) (by omega)]; omega), f4, f1, drf_s, isK_g f3, e_X4_weightOf f2 (by omega), bnd_s, f4, f1, drf_s, isK_g f3, f2.2.2.2.2.2.2.1]
    show ∃ s2, bnd (F_X0_isMore s (iI (mtU w ls cell j)).toInt64 (iI (mtL w ls j)).toInt64) _ = _ ∧ _
    rw [iI_l (by omega), iI_l (by omega), e1, bnd_s, k_0, k_1, iI_add, mxF]
    by_cases hm : q.2.1 * mtL w ls j < mtU w ls cell j * q.2.2
    · rw [if_pos hm] at b1 ⊢
      rw [if_neg (by rw [bZ_i0]; exact fun z => z hm)]
      obtain ⟨s2, e2, c2, r2⟩ := ih (j + 1) s1 (j, mtU w ls cell j, mtL w ls j) hL1 b1 (by have := hst.1; rw [if_pos hm] at this; exact this) (by have := hst.2; rw [if_pos hm] at this; exact this) (by omega) (by omega) (show -1 ≤ j ∧ j ≤ 24 by omega) fu (by omega)
      exact ⟨s2, e2, c2, r1.n2.tr r2⟩
    · rw [if_neg hm] at b1 ⊢
      rw [if_pos (by rw [bZ_i0]; exact hm)]
      obtain ⟨s2, e2, c2, r2⟩ := ih (j + 1) s1 q hL1 b1 hq h0 (by omega) (by omega) h1 fu (by omega)
      exact ⟨s2, e2, c2, r1.n2.tr r2⟩
noncomputable def meantV (w : WR) (ls : List (List DC)) (cell what : Int) : Int := if (0 ≤ cell ∧ cell ≤ 35) ∧ (0 ≤ what ∧ what ≤ 4) then mtZ w ls what (mxF (mtU w ls cell) (mtL w ls) 25 0 (-1, 0, 1)) else -1
theorem x_meant {D : Nat → Prop} {s : St} {w : WR} {ls : List (List DC)} (hC : C0 D s w ls) (hW : Wf w ls) {o : Option Nat} (hM : Mem D s o) (hR : Room s o) {c what : Int} (h1 : i32 c) (h2 : i32 what) : OpA D s ls o (F_X0_meant s (iI c) (iI what)) (lI (meantV w ls c what)) w := by
  unfold i32 at h1 h2
  unfold F_X0_meant meantV
  rw [e_X0_isCell s h1, bnd_s, k_m1, K_m1, k_0, k_4]
  by_cases a1 : 0 ≤ c ∧ c ≤ 35
  · rw [if_neg (by rw [bZ_i0]; exact fun z => z a1), e_X0_in s (by omega) (by omega) (by omega), bnd_s]
    by_cases a2 : 0 ≤ what ∧ what ≤ 4
    · obtain ⟨s1, A, e1, L1, F1, M1, G1⟩ := e_X0_looksAtAll hC hW hM hR
      have c2 : C0 D (setL (setL s1 0 22 (lI 0)) 0 23 (lI 1)) w ls := L1.1.1.setL0.setL0
      have b2 : BsE (setL (setL s1 0 22 (lI 0)) 0 23 (lI 1)) (0, 1) := ⟨rfl, rfl⟩
      have r2 : Fr t22 s1 (setL (setL s1 0 22 (lI 0)) 0 23 (lI 1)) := Fr.tr (S := t22) (Fr.setL0 rfl) (Fr.setL0 rfl)
      obtain ⟨s3, e3, c3, r3⟩ := e_X0_meant_39 hW a1 a2 25 0 _ (-1, 0, 1) (L1.go r2.n2 c2) b2 ⟨by decide, by decide⟩ (by decide) (by omega) (by omega) (by decide) FU (FU_ge (by omega))
      rw [if_neg (by rw [bZ_i0]; exact fun z => z a2), if_pos ⟨a1, a2⟩, e1, bnd_s, K_0, nam_v, K_1, nam_v, e3]
      exact ⟨s3, some A, rfl, c3, (M1.fr r2).fr r3, (G1.go r2.n2).go r3⟩
    · rw [if_pos (by rw [bZ_i0]; exact a2), if_neg (fun z => a2 z.2)]
      exact OpA.of hM hC Sm.rf
  · rw [if_pos (by rw [bZ_i0]; exact a1), if_neg (fun z => a1 z.1)]
    exact OpA.of hM hC Sm.rf
/-! films -/
/-- whether a flight may lie on the films: from the film f on, n of them -/
def fitG (w : WR) (fl : FL) : Nat → Int → Int → Int
  | 0, _, g => g
  | n + 1, f, g => fitG w fl n (f + 1) (if wOf (w 9 f) fl ≤ 0 then 0 else g)
noncomputable def fitF (w : WR) (ls : List (List DC)) (i : Int) : Nat → Int → Int → Int
  | 0, _, n => if i = -1 then n else -1
  | k + 1, j, n => if fitG w (thL w ls j) (w 2 9).toNat 0 1 = 0 then fitF w ls i k (j + 1) n else if n = i then 10 * (1 + j / 5) + j % 5 else fitF w ls i k (j + 1) (n + 1)
theorem and_01 {a b : Int} (ha : a = 0 ∨ a = 1) (hb : b = 0 ∨ b = 1) : iI a &&& iI b = iI (if b = 0 then 0 else a) := by
  rcases ha with rfl | rfl <;> rcases hb with rfl | rfl <;> decide
theorem fitG_01 {w : WR} {fl : FL} : ∀ (n : Nat) (f g : Int), (g = 0 ∨ g = 1) → fitG w fl n f g = 0 ∨ fitG w fl n f g = 1
  | 0, _, _, h => h
  | n + 1, f, g, h => by
    rw [fitG]
    refine fitG_01 n (f + 1) _ ?_
    split
    · exact Or.inl rfl
    · exact h
theorem e_X0_fits_27 {D : Nat → Prop} {w : WR} {ls : List (List DC)} (hW : Wf w ls) {A : Nat} {i c j : Int} (hj : 0 ≤ j ∧ j < 25) (hi : i32 i) (hc : 0 ≤ c ∧ c ≤ 1000) {k : St → Int32 → Int32 → Int32 → Option (Int32 × St)} {s : St} (hL : LkA D s w ls A) : ∀ (n : Nat) (f g : Int), 0 ≤ f → w 2 9 = n + f → (g = 0 ∨ g = 1) → ∀ fu, n < fu → F_X0_fits_27 k fu s (iI i) (iI c) (iI j) (iI g) (iI f) = if fitG w (thL w ls j) n f g = 0 then k s (iI i) (iI c) (iI (j + 1)) else if c = i then some (iI (10 * (1 + j / 5) + j % 5), s) else k s (iI i) (iI (c + 1)) (iI (j + 1)) := by
  have hf9 := hW.2.1
  unfold i32 at hi
  intro n
  induction n with
  | zero =>
    intro f g h0 hn hg fu hfu
    obtain ⟨fu, rfl⟩ : ∃ g, fu = g + 1 := ⟨fu - 1, by omega⟩
    rw [F_X0_fits_27, fitG]
    show (if si s 2 9 ≤ iI f then _ else _) = _
    rw [hL.1.1.2.1.filmMany, if_pos (by rw [iI_le (by omega) (by omega)]; omega), k_0, k_1, k_10, k_5, iI_add, iI_add, iI_remn (by omega) (by omega), e_X0_forceOf s (by omega), bnd_s, iI_mul, iI_add]
    by_cases a : g = 0
    · rw [if_pos (by rw [a]), if_pos a]
    · rw [if_neg (by rw [iI_eq (by omega) (by omega)]; exact a), if_neg a]
      by_cases b : c = i
      · rw [if_pos (by rw [b]), if_pos b]
      · rw [if_neg (by rw [iI_eq (by omega) (by omega)]; exact b), if_neg b]
  | succ n ih =>
    intro f g h0 hn hg fu hfu
    obtain ⟨fu, rfl⟩ : ∃ g, fu = g + 1 := ⟨fu - 1, by omega⟩
    obtain ⟨f1, f2, f3, f4⟩ := e_X0_fl (α := Int32 × St) (j := j) hj hL.2.2
    have h9 := hW.2.2.2.2.2.2 f h0 (by omega)
    have hwo := f2.wO (cell := w 9 f)
    have hs := f2.sum
    rw [F_X0_fits_27, fitG]
    show (if si s 2 9 ≤ iI f then _ else _) = _
    unfold F_X0_fits_68
    rw [hL.1.1.2.1.filmMany, if_neg (by rw [iI_le (by omega) (by omega)]; omega), f4, inb_g (by omega), f1, drf_s, isK_g f3, iI_nat (by omega), hL.1.1.2.1 9 f h0 (by show _ < _; omega), e_X4_weightOf f2 (by omega), bnd_s, k_0, k_1, iI_add]
    by_cases a : wOf (w 9 f) (thL w ls j) ≤ 0
    · rw [if_pos (by rw [iI_le (by omega) (by omega)]; exact a), if_pos a, and_01 hg (Or.inl rfl), if_pos rfl]
      exact ih (f + 1) 0 (by omega) (by omega) (Or.inl rfl) fu (by omega)
    · rw [if_neg (by rw [iI_le (by omega) (by omega)]; exact a), if_neg a, and_01 hg (Or.inr rfl), if_neg (by omega)]
      exact ih (f + 1) g (by omega) (by omega) hg fu (by omega)
theorem e_X0_fits_15 {D : Nat → Prop} {w : WR} {ls : List (List DC)} (hW : Wf w ls) {A : Nat} {i : Int} (hi : i32 i) {s : St} (hL : LkA D s w ls A) : ∀ (n : Nat) (j c : Int), 0 ≤ j → 25 = n + j → (0 ≤ c ∧ c ≤ j) → ∀ fu, n < fu → F_X0_fits_15 fu s (iI i) (iI c) (iI j) = some (iI (fitF w ls i n j c), s) := by
  have hf9 := hW.2.1
  have hi' := hi
  unfold i32 at hi'
  intro n
  induction n with
  | zero =>
    intro j c h0 hn hc fu hfu
    obtain ⟨fu, rfl⟩ : ∃ g, fu = g + 1 := ⟨fu - 1, by omega⟩
    rw [F_X0_fits_15, fitF]
    show (if (25 : Int32) ≤ iI j then _ else _) = _
    rw [k_25, if_pos (by rw [iI_le (by omega) (by omega)]; omega), k_m1]
    by_cases a : i = -1
    · rw [if_pos (by rw [a]), if_pos a]
    · rw [if_neg (by rw [iI_eq (by omega) (by omega)]; exact a), if_neg a]
  | succ n ih =>
    intro j c h0 hn hc fu hfu
    obtain ⟨fu, rfl⟩ : ∃ g, fu = g + 1 := ⟨fu - 1, by omega⟩
    rw [F_X0_fits_15, fitF]
    show (if (25 : Int32) ≤ iI j then _ else _) = _
    rw [k_25, if_neg (by rw [iI_le (by omega) (by omega)]; omega), k_1, k_0, e_X0_fits_27 hW (by omega) hi (by omega) hL (w 2 9).toNat 0 1 (by omega) (by omega) (Or.inr rfl) FU (FU_ge (by omega))]
    rw [ih (j + 1) c (by omega) (by omega) (by omega) fu (by omega), ih (j + 1) (c + 1) (by omega) (by omega) (by omega) fu (by omega)]
    split
    · rfl
    · split <;> rfl
noncomputable def fitsV (w : WR) (ls : List (List DC)) (i : Int) : Int := if i < -1 then -1 else fitF w ls i 25 0 0
theorem x_fits {D : Nat → Prop} {s : St} {w : WR} {ls : List (List DC)} (hC : C0 D s w ls) (hW : Wf w ls) {o : Option Nat} (hM : Mem D s o) (hR : Room s o) {i : Int} (h1 : i32 i) : OpA D s ls o (F_X0_fits s (iI i)) (iI (fitsV w ls i)) w := by
  have h1' := h1
  unfold i32 at h1'
  unfold F_X0_fits fitsV
  rw [k_m1, k_0]
  by_cases a : i < -1
  · rw [if_neg (by rw [iI_le (by omega) (by omega)]; omega), if_pos a]
    exact OpA.of hM hC Sm.rf
  · obtain ⟨s1, A, e1, L1, F1, M1, G1⟩ := e_X0_looksAtAll hC hW hM hR
    rw [if_pos (by rw [iI_le (by omega) (by omega)]; omega), if_neg a, e1, bnd_s, e_X0_fits_15 hW h1 L1 25 0 0 (by omega) (by omega) (by omega) FU (FU_ge (by omega))]
    exact ⟨s1, some A, rfl, L1.1.1, M1, G1⟩

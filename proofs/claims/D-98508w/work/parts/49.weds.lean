set_option maxRecDepth 100000
/-! ===== the component: weddings ===== -/
/-- the same rows (all but what draws change) -/
def Eq9 (w w' : WR) : Prop := ∀ r k, 2 ≤ r → r ≤ 9 → w' r k = w r k
theorem Eq9.rf {w : WR} : Eq9 w w := fun _ _ _ _ => rfl
theorem Eq9.up {w w' : WR} (h : Eq9 w w') {r : Nat} {k v : Int} (hr : r < 2 ∨ 9 < r) : Eq9 w (wup w' r k v) := fun r' k' h1 h2 => by
  rw [wup_n (by omega)]
  exact h r' k' h1 h2
theorem Eq9.wf {w w' : WR} {ls : List (List DC)} (h : Eq9 w w') (hW : Wf w ls) : Wf w' ls := hW.same fun r k hr => h r k (by omega) (by omega)
theorem Eq9.says {w w' : WR} {ls : List (List DC)} (h : Eq9 w w') {k : Int} {v : Nat → Int} : saysZ w' ls k v = saysZ w ls k v := by
  unfold saysZ
  rw [h 2 10 (by decide) (by decide)]
theorem Eq9.grip {w w' : WR} {ls : List (List DC)} (h : Eq9 w w') {c f : Int} : gripZ w' ls c f = gripZ w ls c f := by
  unfold gripZ
  rw [h.says, h 2 10 (by decide) (by decide), h 6 c (by decide) (by decide), h 5 c (by decide) (by decide), h 8 8 (by decide) (by decide)]
theorem Eq9.wed {w w' : WR} {ls : List (List DC)} (h : Eq9 w w') {c f : Int} : wedZ w' ls c f = wedZ w ls c f := by
  unfold wedZ
  rw [h.says, h 2 10 (by decide) (by decide), h 6 c (by decide) (by decide), h 5 c (by decide) (by decide), h 8 8 (by decide) (by decide)]
theorem Eq9.grips {w w' : WR} {ls : List (List DC)} (h : Eq9 w w') {c a b : Int} : gripsZ w' ls c a b = gripsZ w ls c a b := by
  unfold gripsZ
  rw [h.grip, h 5 c (by decide) (by decide), h 4 c (by decide) (by decide)]
theorem Eq9.best {w w' : WR} {ls : List (List DC)} (h : Eq9 w w') {f : Int → Int} {cell : Int} : ∀ (k : Nat) (c : Int) (q : Int × Int × Int), bestF w' ls f cell k c q = bestF w ls f cell k c q
  | 0, _, _ => rfl
  | k + 1, c, q => by
    unfold bestF
    rw [h.grips]
    exact Eq9.best h k (c + 1) _
theorem Eq9.part {w w' : WR} {ls : List (List DC)} (h : Eq9 w w') {n c : Int} {f : Int → Int} {cell : Int} : partZ w' ls n c f cell = partZ w ls n c f cell := by
  have e : bestI w' ls n f cell = bestI w ls n f cell := h.best _ _ _
  unfold partZ partQ lostP
  rw [e, h 8 5 (by decide) (by decide), h.grips]
theorem Eq9.gr {w w' : WR} {ls : List (List DC)} {s : St} {n : Int} (h : Eq9 w w') (hG : GrE s w ls n) : GrE s w' ls n := fun c f h1 h2 h3 h4 => by
  rw [h.grip]
  exact hG c f h1 h2 h3 h4
/-- what weddings keep: the rows' registers w, now w' -/
def Wd (D : Nat → Prop) (s : St) (w w' : WR) (ls : List (List DC)) : Prop := C0 D s w' ls ∧ si s 0 20 = iI (w 2 8) ∧ GrE s w ls (w 2 8) ∧ FlE s 23 24 25 (nowL w ls) ∧ Eq9 w w' ∧ (0 ≤ w' 0 27 ∧ w' 0 27 ≤ 1000003)
theorem Wd.wv {D : Nat → Prop} {s : St} {w w' : WR} {ls : List (List DC)} {g : Nat → Int64} (h : Wd D s w w' ls) : Wd D (wV s g) w w' ls := ⟨h.1.wV, h.2.1, h.2.2.1, h.2.2.2.1, h.2.2.2.2⟩
theorem Wd.set {D : Nat → Prop} {s : St} {w w' : WR} {ls : List (List DC)} (h : Wd D s w w' ls) {r : Nat} {k v : Int} (hr : r = 29 ∨ r = 30) (hk : 0 ≤ k) : Wd D (setI s r k.toNat (iI v)) w (wup w' r k v) ls := by
  have f : Fr (fun x => x = r) s (setI s r k.toNat (iI v)) := Fr.set rfl
  refine ⟨h.1.set r hk (by omega), ?_, h.2.2.1.fr f (by show ¬ 27 = r; omega), h.2.2.2.1.fr f (by show ¬ 23 = r; omega) (by show ¬ 24 = r; omega) (by show ¬ 25 = r; omega), h.2.2.2.2.1.up (by omega), ?_⟩
  · rw [si_set, if_neg (by omega)]
    exact h.2.1
  · rw [wup_n (by omega)]
    exact h.2.2.2.2.2
def drW (w : WR) : WR := wup w 0 27 ((w 0 27 * 1103 + 12345) % 1000003)
def drV (w : WR) (n : Int) : Int := (w 0 27 * 1103 + 12345) % 1000003 % n
theorem e_X0_draw {D : Nat → Prop} {s : St} {w w' : WR} {ls : List (List DC)} (h : Wd D s w w' ls) {n : Int} (hn : 1 ≤ n ∧ n ≤ 1000) : ∃ s1, F_X0_draw s (iI n) = some (iI (drV w' n), s1) ∧ Wd D s1 w (drW w') ls ∧ Sm s s1 ∧ (0 ≤ drV w' n ∧ drV w' n < n) := by
  have h27 := h.2.2.2.2.2
  have e27 : si s 0 27 = iI (w' 0 27) := h.1.2.1.o (k := 27) (rel0 (by omega)) (by omega)
  have f : Fr (fun x => x = 0) s (setI s 0 27 (iI ((w' 0 27 * 1103 + 12345) % 1000003))) := Fr.set rfl
  have hr : 0 ≤ (w' 0 27 * 1103 + 12345) % 1000003 ∧ (w' 0 27 * 1103 + 12345) % 1000003 < 1000003 := by omega
  refine ⟨setI s 0 27 (iI ((w' 0 27 * 1103 + 12345) % 1000003)), ?_, ⟨h.1.set 0 (k := 27) (by omega) (by decide), ?_, h.2.2.1.fr f (by decide), h.2.2.2.1.fr f (by decide) (by decide) (by decide), h.2.2.2.2.1.up (by omega), ?_⟩, Sm.set (by decide), ?_⟩
  · unfold F_X0_draw
    rw [e27, iI_l (by omega), K_1103, K_12345, K_1000003, lI_mul, lI_add, lI_remn (by omega) (by omega), lI_i (by omega), nam_v, gd_ok (nzi_t (by omega) (by omega)), si_set, if_pos rfl, if_pos rfl, iI_remn (by omega) (by omega)]
    rfl
  · rw [si_set, if_pos rfl, if_neg (by decide)]
    exact h.2.1
  · unfold drW
    rw [wup_s]
    omega
  · unfold drV
    exact ⟨Int.emod_nonneg _ (by omega), Int.emod_lt_of_pos _ (by omega)⟩
theorem Wd.part {D : Nat → Prop} {s : St} {w w' : WR} {ls : List (List DC)} (h : Wd D s w w' ls) (hW : Wf w ls) {c cell : Int} (hc : c = -1 ∨ (0 ≤ c ∧ c < w 2 8)) (hl : -1 ≤ cell ∧ cell ≤ 35) : F_X0_partOf s (iI c) (some 3) (iI cell) = some (iI (partZ w ls (w 2 8) c (w 3) cell), s) := by
  have hW' := h.2.2.2.2.1.wf hW
  have e := e_X0_partOf h.1.2.1 hW' (h.2.2.2.2.1.gr h.2.2.1) hW.1 h.2.1 (h.1.1.1 3 (by decide)) (h.1.2.1.cel hW') hc hl
  have e3 : w' 3 = w 3 := funext fun k => h.2.2.2.2.1 3 k (by decide) (by decide)
  rw [e, h.2.2.2.2.1.part, e3]
theorem Wd.many {D : Nat → Prop} {s : St} {w w' : WR} {ls : List (List DC)} (h : Wd D s w w' ls) : si s 2 8 = iI (w 2 8) := by
  rw [h.1.2.1.many, h.2.2.2.2.1 2 8 (by decide) (by decide)]
theorem Wd.wed {D : Nat → Prop} {s : St} {w w' : WR} {ls : List (List DC)} (h : Wd D s w w' ls) (hW : Wf w ls) {c k : Int} (hc : 0 ≤ c ∧ c < 6) (hk : 0 ≤ k ∧ k ≤ 1) : ∃ g, F_X0_wed s (iI c) (iI k) = some (iI (wedZ w ls c k), wV s g) := by
  obtain ⟨g, e⟩ := e_X0_wed h.1 (h.2.2.2.2.1.wf hW) (c := c) (far := k) hc (by omega)
  rw [h.2.2.2.2.1.wed] at e
  exact ⟨g, e⟩
/-! who has it -/
noncomputable def alkF (w : WR) (ls : List (List DC)) (cell : Int) : Nat → Int → Int → Int
  | 0, _, z => z
  | n + 1, c, z => alkF w ls cell n (c + 1) (z + @ite _ (partZ w ls (w 2 8) c (w 3) cell ≤ 0) (Classical.propDecidable _) 0 1)
noncomputable def hldF (w : WR) (ls : List (List DC)) (cell : Int) : Nat → Int → Int → Int
  | 0, _, _ => -1
  | n + 1, c, at_ => if partZ w ls (w 2 8) c (w 3) cell = 0 then hldF w ls cell n (c + 1) at_ else if at_ = 0 then c else hldF w ls cell n (c + 1) (at_ - 1)
theorem alkF_r {w : WR} {ls : List (List DC)} {cell : Int} : ∀ (n : Nat) (c z : Int), z ≤ alkF w ls cell n c z ∧ alkF w ls cell n c z ≤ z + n
  | 0, _, z => ⟨Int.le_refl _, by rw [alkF]; omega⟩
  | n + 1, c, z => by
    rw [alkF]
    have := alkF_r (w := w) (ls := ls) (cell := cell) n (c + 1) (z + @ite _ (partZ w ls (w 2 8) c (w 3) cell ≤ 0) (Classical.propDecidable _) 0 1)
    split at this <;> rename_i h
    · rw [if_pos h]; omega
    · rw [if_neg h]; omega
theorem hldF_r {w : WR} {ls : List (List DC)} {cell : Int} : ∀ (n : Nat) (c a : Int), 0 ≤ c → -1 ≤ hldF w ls cell n c a ∧ hldF w ls cell n c a < c + n
  | 0, c, _, h => by rw [hldF]; omega
  | n + 1, c, a, h => by
    have h1 := hldF_r (w := w) (ls := ls) (cell := cell) n (c + 1) a (by omega)
    have h2 := hldF_r (w := w) (ls := ls) (cell := cell) n (c + 1) (a - 1) (by omega)
    rw [hldF]
    split
    · omega
    · split <;> omega
theorem e_X0_holder_63 {D : Nat → Prop} {w w' : WR} {ls : List (List DC)} (hW : Wf w ls) {s : St} (h : Wd D s w w' ls) {cell : Int} (hl : -1 ≤ cell ∧ cell ≤ 35) : ∀ (n : Nat) (c a : Int), 0 ≤ c → w 2 8 = n + c → (0 ≤ a ∧ a ≤ 1000) → ∀ fu, n < fu → F_X0_holder_63 fu s (iI cell) (iI a) (iI c) = some (iI (hldF w ls cell n c a), s) := by
  have hm := hW.1
  intro n
  induction n with
  | zero =>
    intro c a h0 hn ha fu hfu
    obtain ⟨fu, rfl⟩ : ∃ g, fu = g + 1 := ⟨fu - 1, by omega⟩
    rw [F_X0_holder_63, hldF]
    show (if si s 2 8 ≤ iI c then _ else _) = _
    rw [h.many, if_pos (by rw [iI_le (by omega) (by omega)]; omega), k_m1]
  | succ n ih =>
    intro c a h0 hn ha fu hfu
    obtain ⟨fu, rfl⟩ : ∃ g, fu = g + 1 := ⟨fu - 1, by omega⟩
    have hp := partZ_r (w := w) (ls := ls) (n := w 2 8) (c := c) (f := w 3) (cell := cell)
    rw [F_X0_holder_63, hldF]
    show (if si s 2 8 ≤ iI c then _ else _) = _
    rw [h.many, if_neg (by rw [iI_le (by omega) (by omega)]; omega), h.part hW (Or.inr ⟨h0, by omega⟩) hl, bnd_s, k_m1, k_0, k_1, iI_add, iI_add]
    by_cases a1 : partZ w ls (w 2 8) c (w 3) cell = 0
    · rw [if_pos (by rw [a1]), if_pos a1]
      exact ih (c + 1) a (by omega) (by omega) ha fu (by omega)
    · rw [if_neg (by rw [iI_eq (by omega) (by omega)]; exact a1), if_neg a1]
      by_cases a2 : a = 0
      · rw [if_pos (by rw [a2]), if_pos a2]
      · rw [if_neg (by rw [iI_eq (by omega) (by omega)]; exact a2), if_neg a2]
        exact ih (c + 1) (a - 1) (by omega) (by omega) (by omega) fu (by omega)
noncomputable def alkZ (w : WR) (ls : List (List DC)) (cell : Int) : Int := alkF w ls cell (w 2 8).toNat 0 0
noncomputable def hldV (w : WR) (ls : List (List DC)) (w' : WR) (cell : Int) : Int := hldF w ls cell (w 2 8).toNat 0 (if alkZ w ls cell ≤ 1 then 0 else drV w' (alkZ w ls cell))
noncomputable def hldW (w : WR) (ls : List (List DC)) (w' : WR) (cell : Int) : WR := if alkZ w ls cell ≤ 1 then w' else drW w'
theorem e_X0_holder_4 {D : Nat → Prop} {w w' : WR} {ls : List (List DC)} (hW : Wf w ls) {s : St} (h : Wd D s w w' ls) {cell : Int} (hl : -1 ≤ cell ∧ cell ≤ 35) : ∀ (n : Nat) (c z : Int), 0 ≤ c → w 2 8 = n + c → (0 ≤ z ∧ z ≤ c) → alkF w ls cell n c z = alkZ w ls cell → ∀ fu, n < fu → ∃ s1, F_X0_holder_4 fu s (iI cell) (iI z) (iI c) = some (iI (hldV w ls w' cell), s1) ∧ Wd D s1 w (hldW w ls w' cell) ls ∧ Sm s s1 := by
  have hm := hW.1
  intro n
  induction n with
  | zero =>
    intro c z h0 hn hz ha fu hfu
    obtain ⟨fu, rfl⟩ : ∃ g, fu = g + 1 := ⟨fu - 1, by omega⟩
    rw [alkF] at ha
    unfold hldV hldW
    rw [← ha]
    rw [F_X0_holder_4]
    show ∃ s1, (if si s 2 8 ≤ iI c then _ else _) = _ ∧ _
    rw [h.many, if_pos (by rw [iI_le (by omega) (by omega)]; omega), k_0, k_1]
    by_cases a : z ≤ 1
    · rw [if_pos (by rw [iI_le (by omega) (by omega)]; exact a), if_pos a, if_pos a]
      exact ⟨s, e_X0_holder_63 hW h hl (w 2 8).toNat 0 0 (by omega) (by omega) (by omega) FU (FU_ge (by omega)), h, Sm.rf⟩
    · obtain ⟨s1, e1, h1, m1, r1⟩ := e_X0_draw h (n := z) (by omega)
      rw [if_neg (by rw [iI_le (by omega) (by omega)]; exact a), if_neg a, if_neg a, e1, bnd_s]
      exact ⟨s1, e_X0_holder_63 hW h1 hl (w 2 8).toNat 0 (drV w' z) (by omega) (by omega) (by omega) FU (FU_ge (by omega)), h1, m1⟩
  | succ n ih =>
    intro c z h0 hn hz ha fu hfu
    obtain ⟨fu, rfl⟩ : ∃ g, fu = g + 1 := ⟨fu - 1, by omega⟩
    have hp := partZ_r (w := w) (ls := ls) (n := w 2 8) (c := c) (f := w 3) (cell := cell)
    rw [alkF] at ha
    rw [F_X0_holder_4]
    show ∃ s1, (if si s 2 8 ≤ iI c then _ else _) = _ ∧ _
    rw [h.many, if_neg (by rw [iI_le (by omega) (by omega)]; omega), h.part hW (Or.inr ⟨h0, by omega⟩) hl, bnd_s, k_0, k_1, iI_add, iI_add, iI_add]
    by_cases a1 : partZ w ls (w 2 8) c (w 3) cell ≤ 0
    · rw [if_pos a1] at ha
      rw [if_pos (by rw [iI_le (by omega) (by omega)]; exact a1)]
      exact ih (c + 1) (z + 0) (by omega) (by omega) (by omega) ha fu (by omega)
    · rw [if_neg a1] at ha
      rw [if_neg (by rw [iI_le (by omega) (by omega)]; exact a1)]
      exact ih (c + 1) (z + 1) (by omega) (by omega) (by omega) ha fu (by omega)
theorem e_X0_holder {D : Nat → Prop} {w w' : WR} {ls : List (List DC)} (hW : Wf w ls) {s : St} (h : Wd D s w w' ls) {cell : Int} (hl : -1 ≤ cell ∧ cell ≤ 35) : ∃ s1, F_X0_holder s (iI cell) = some (iI (hldV w ls w' cell), s1) ∧ Wd D s1 w (hldW w ls w' cell) ls ∧ Sm s s1 ∧ (-1 ≤ hldV w ls w' cell ∧ hldV w ls w' cell < w 2 8) := by
  have hm := hW.1
  obtain ⟨s1, e, h1, m1⟩ := e_X0_holder_4 hW h hl (w 2 8).toNat 0 0 (by omega) (by omega) (by omega) rfl FU (FU_ge (by omega))
  have hr := hldF_r (w := w) (ls := ls) (cell := cell) (w 2 8).toNat 0 (if alkZ w ls cell ≤ 1 then 0 else drV w' (alkZ w ls cell)) (by omega)
  exact ⟨s1, e, h1, m1, hr.1, by unfold hldV; omega⟩
/-! one wedding after the other -/
noncomputable def oth1 (w : WR) (ls : List (List DC)) (w' : WR) (c k : Int) : WR := wup (drW w') 30 c (w' 30 c + if wedZ w ls c k ≤ drV w' 100 then 0 else 1)
noncomputable def othF (w : WR) (ls : List (List DC)) (who : Int) : Nat → Int → WR → WR
  | 0, _, w' => w'
  | n + 1, c, w' => othF w ls who n (c + 1) (if c = who then w' else oth1 w ls w' c 0)
theorem drW_o {w : WR} {r : Nat} {k : Int} (h : r ≠ 0) : drW w r k = w r k := wup_n h
theorem e_X0_weddings_209 {D : Nat → Prop} {w : WR} {ls : List (List DC)} (hW : Wf w ls) {n0 all k0 who : Int} (hwho : -1 ≤ who ∧ who ≤ 6) {k : St → Int32 → Int32 → Int32 → Option (Int32 × St)} : ∀ (n : Nat) (c : Int) (s : St) (w' : WR), Wd D s w w' ls → 0 ≤ c → w 2 8 = n + c → ∀ fu, n < fu → ∃ s1, F_X0_weddings_209 k fu s (iI n0) (iI all) (iI k0) (iI who) (iI c) = k s1 (iI n0) (iI all) (iI (k0 + 1)) ∧ Wd D s1 w (othF w ls who n c w') ls ∧ Sm s s1 := by
  have hm := hW.1
  intro n
  induction n with
  | zero =>
    intro c s w' h h0 hn fu hfu
    obtain ⟨fu, rfl⟩ : ∃ g, fu = g + 1 := ⟨fu - 1, by omega⟩
    refine ⟨s, ?_, h, Sm.rf⟩
    rw [F_X0_weddings_209]
    show (if si s 2 8 ≤ iI c then _ else _) = _
    rw [h.many, if_pos (by rw [iI_le (by omega) (by omega)]; omega), k_1, iI_add]
  | succ n ih =>
    intro c s w' h h0 hn fu hfu
    obtain ⟨fu, rfl⟩ : ∃ g, fu = g + 1 := ⟨fu - 1, by omega⟩
    rw [F_X0_weddings_209, othF]
    show ∃ s1, (if si s 2 8 ≤ iI c then _ else _) = _ ∧ _
    unfold F_X0_weddings_257
    rw [h.many, if_neg (by rw [iI_le (by omega) (by omega)]; omega), k_0, k_1, iI_add]
    by_cases a1 : c = who
    · rw [if_pos (by rw [a1]), if_pos a1]
      exact ih (c + 1) s w' h (by omega) (by omega) fu (by omega)
    · obtain ⟨s1, e1, h1, m1, r1⟩ := e_X0_draw h (n := 100) (by omega)
      obtain ⟨g, e2⟩ := h1.wed hW (c := c) (k := 0) (by omega) (by omega)
      have hwr := wedZ_r (w := w) (ls := ls) (c := c) (k := 0)
      have e30 : si s 30 c.toNat = iI (w' 30 c) := h.1.2.1 30 c h0 (by show _ < _; omega)
      have h3 := h1.wv (g := g)
      rw [if_neg (by rw [iI_eq (by omega) (by omega)]; exact a1), if_neg a1, inb_g (by omega), k_100, e1, bnd_s, e2, bnd_s, inb_g (by omega), inb_g (by omega), iI_nat (by omega), nam_v, e30, iI_add, nam_v, iI_add]
      by_cases a2 : wedZ w ls c 0 ≤ drV w' 100
      · have h4 := h3.set (r := 30) (k := c) (v := w' 30 c + 0) (Or.inr rfl) h0
        obtain ⟨s5, e5, h5, m5⟩ := ih (c + 1) _ _ h4 (by omega) (by omega) fu (by omega)
        rw [if_pos (by rw [iI_le (by omega) (by omega)]; exact a2)]
        refine ⟨s5, e5, ?_, ((m1.tr Sm.wV).tr (Sm.set (by decide))).tr m5⟩
        unfold oth1
        rw [if_pos a2]
        exact h5
      · have h4 := h3.set (r := 30) (k := c) (v := w' 30 c + 1) (Or.inr rfl) h0
        obtain ⟨s5, e5, h5, m5⟩ := ih (c + 1) _ _ h4 (by omega) (by omega) fu (by omega)
        rw [if_neg (by rw [iI_le (by omega) (by omega)]; exact a2)]
        refine ⟨s5, e5, ?_, ((m1.tr Sm.wV).tr (Sm.set (by decide))).tr m5⟩
        unfold oth1
        rw [if_neg a2]
        exact h5
/-- the cell of the slip that is drawn -/
def slC : FL → Int → Int
  | [], _ => -1
  | x :: r, a => if a < x.2 then x.1 else slC r (a - x.2)
noncomputable def hadW (w : WR) (ls : List (List DC)) (w' : WR) (who : Int) : WR := if who = -1 then w' else oth1 w ls (wup w' 29 who (w' 29 who + 1)) who 1
noncomputable def afterW (w : WR) (ls : List (List DC)) (w' : WR) (cell : Int) : WR := othF w ls (hldV w ls w' cell) (w 2 8).toNat 0 (hadW w ls (hldW w ls w' cell) (hldV w ls w' cell))
noncomputable def oneW (w : WR) (ls : List (List DC)) (w' : WR) : WR := afterW w ls (drW w') (slC (nowL w ls) (drV w' (sumW (nowL w ls))))
theorem slC_r : ∀ {fl : FL} {a : Int}, (∀ x ∈ fl, -1 ≤ x.1 ∧ x.1 ≤ 35) → -1 ≤ slC fl a ∧ slC fl a ≤ 35
  | [], _, _ => ⟨show (-1 : Int) ≤ -1 by decide, show (-1 : Int) ≤ 35 by decide⟩
  | x :: r, a, h => by
    rw [slC]
    split
    · exact h x List.mem_cons_self
    · exact slC_r fun y hy => h y (List.mem_cons_of_mem _ hy)
theorem e_X0_weddings_106 {D : Nat → Prop} {w : WR} {ls : List (List DC)} (hW : Wf w ls) {n0 all k0 : Int} {k : St → Int32 → Int32 → Int32 → Option (Int32 × St)} {s : St} {w' : WR} (h : Wd D s w w' ls) : ∀ (j i : Nat) (a : Int), (nowL w ls).length = j + i → (0 ≤ a ∧ a < sumW ((nowL w ls).drop i)) → ∀ fu, j < fu → ∃ s1, F_X0_weddings_106 k fu s (iI n0) (iI all) (iI k0) (iI a) (iI i) = k s1 (iI n0) (iI all) (iI (k0 + 1)) ∧ Wd D s1 w (afterW w ls w' (slC ((nowL w ls).drop i) a)) ls ∧ Sm s s1 := by
  have hm := hW.1
  have hF := h.2.2.2.1
  have hsum := hF.sum
  obtain ⟨f1, f2, f3, f4, f5, f6, f7, f8, f9⟩ := hF
  intro j
  induction j with
  | zero =>
    intro i a hi ha fu hfu
    exfalso
    rw [List.drop_eq_nil_of_le (by omega), sumW] at ha
    omega
  | succ j ih =>
    intro i a hi ha fu hfu
    obtain ⟨fu, rfl⟩ : ∃ g, fu = g + 1 := ⟨fu - 1, by omega⟩
    obtain ⟨x, hx, hd⟩ := drop_cons (l := nowL w ls) (i := i) (by omega)
    obtain ⟨q1, q2, q3, q4⟩ := f9 i x hx
    have hrest := sumW_r (fl := (nowL w ls).drop (i + 1)) fun y hy => (h.2.2.2.1.mem y (List.mem_of_mem_drop hy)).2
    have h4 : iI (i : Int) + 1 = iI ((i + 1 : Nat) : Int) := by
      rw [k_1, iI_add]
      rfl
    have hdr : (List.drop (i + 1) (nowL w ls)).length ≤ 9 := by rw [List.length_drop]; omega
    have hax : a ≤ 200 := by
      rw [hd, sumW] at ha
      omega
    rw [F_X0_weddings_106]
    show ∃ s1, gd (inb (iI (i : Int)) 9) (if iI a < si s 25 (iI (i : Int)).toNatClampNeg then _ else _) = _ ∧ _
    rw [inb_g (by omega), iI_nat (by omega), Int.toNat_natCast, q2, hd, slC]
    rw [hd, sumW] at ha
    by_cases b : a < x.2
    · obtain ⟨s1, e1, h1, m1, r1⟩ := e_X0_holder hW h (cell := x.1) q3
      rw [if_pos (by rw [iI_lt (by omega) (by omega)]; exact b), if_pos b, inb_g (by omega), q1, e1, bnd_s, k_m1, k_0]
      unfold afterW hadW
      by_cases c : hldV w ls w' x.1 = -1
      · obtain ⟨s2, e2, h2, m2⟩ := e_X0_weddings_209 hW (n0 := n0) (all := all) (k0 := k0) (who := hldV w ls w' x.1) (by omega) (k := k) (w 2 8).toNat 0 s1 _ h1 (by omega) (by omega) FU (FU_ge (by omega))
        rw [if_pos (by rw [c]), if_pos c]
        exact ⟨s2, e2, h2, m1.tr m2⟩
      · have e29 : si s1 29 (hldV w ls w' x.1).toNat = iI (hldW w ls w' x.1 29 (hldV w ls w' x.1)) := h1.1.2.1 29 _ (by omega) (by show _ < _; omega)
        have h2 := h1.set (r := 29) (k := hldV w ls w' x.1) (v := hldW w ls w' x.1 29 (hldV w ls w' x.1) + 1) (Or.inl rfl) (by omega)
        obtain ⟨s3, e3, h3, m3, r3⟩ := e_X0_draw h2 (n := 100) (by omega)
        obtain ⟨g, e4⟩ := h3.wed hW (c := hldV w ls w' x.1) (k := 1) (by omega) (by omega)
        have hwr := wedZ_r (w := w) (ls := ls) (c := hldV w ls w' x.1) (k := 1)
        have e30 := h2.1.2.1 30 (hldV w ls w' x.1) (by omega) (by show _ < _; omega)
        have h5 := h3.wv (g := g)
        have sm4 : Sm s (wV s3 g) := ((m1.tr (Sm.set (by decide))).tr m3).tr Sm.wV
        rw [if_neg (by rw [iI_eq (by omega) (by omega)]; exact c), if_neg c, inb_g (by omega), inb_g (by omega), iI_nat (by omega), e29, k_1, iI_add, nam_v, inb_g (by omega), k_100, e3, bnd_s, e4, bnd_s, e30]
        unfold F_X0_weddings_204
        rw [inb_g (by omega), inb_g (by omega), iI_nat (by omega), iI_add, iI_add, nam_v, nam_v]
        unfold oth1
        by_cases d : wedZ w ls (hldV w ls w' x.1) 1 ≤ drV (wup (hldW w ls w' x.1) 29 (hldV w ls w' x.1) (hldW w ls w' x.1 29 (hldV w ls w' x.1) + 1)) 100
        · have h6 := h5.set (r := 30) (k := hldV w ls w' x.1) (v := wup (hldW w ls w' x.1) 29 (hldV w ls w' x.1) (hldW w ls w' x.1 29 (hldV w ls w' x.1) + 1) 30 (hldV w ls w' x.1) + 0) (Or.inr rfl) (by omega)
          obtain ⟨s7, e7, h7, m7⟩ := e_X0_weddings_209 hW (n0 := n0) (all := all) (k0 := k0) (who := hldV w ls w' x.1) (by omega) (k := k) (w 2 8).toNat 0 _ _ h6 (by omega) (by omega) FU (FU_ge (by omega))
          rw [if_pos (by rw [iI_le (by omega) (by omega)]; exact d), if_pos d]
          exact ⟨s7, e7, h7, (sm4.tr (Sm.set (by decide))).tr m7⟩
        · have h6 := h5.set (r := 30) (k := hldV w ls w' x.1) (v := wup (hldW w ls w' x.1) 29 (hldV w ls w' x.1) (hldW w ls w' x.1 29 (hldV w ls w' x.1) + 1) 30 (hldV w ls w' x.1) + 1) (Or.inr rfl) (by omega)
          obtain ⟨s7, e7, h7, m7⟩ := e_X0_weddings_209 hW (n0 := n0) (all := all) (k0 := k0) (who := hldV w ls w' x.1) (by omega) (k := k) (w 2 8).toNat 0 _ _ h6 (by omega) (by omega) FU (FU_ge (by omega))
          rw [if_neg (by rw [iI_le (by omega) (by omega)]; exact d), if_neg d]
          exact ⟨s7, e7, h7, (sm4.tr (Sm.set (by decide))).tr m7⟩
    · rw [if_neg (by rw [iI_lt (by omega) (by omega)]; exact b), if_neg b, inb_g (by omega), iI_sub, nam_v, h4]
      exact ih (i + 1) (a - x.2) (by omega) (by omega) fu (by omega)
noncomputable def wdsF (w : WR) (ls : List (List DC)) : Nat → WR → WR
  | 0, w' => w'
  | n + 1, w' => wdsF w ls n (oneW w ls w')
def allF (w' : WR) : Nat → Int → Int → Int
  | 0, _, z => z
  | n + 1, c, z => allF w' n (c + 1) (z + w' 30 c)
theorem e_X0_weddings_274 {D : Nat → Prop} {w w' : WR} {ls : List (List DC)} (hW : Wf w ls) {s : St} (h : Wd D s w w' ls) : ∀ (n : Nat) (c z : Int), 0 ≤ c → w 2 8 = n + c → ∀ fu, n < fu → Op D s ls (F_X0_weddings_274 fu s (iI z) (iI c)) (allF w' n c z) (wup w' 0 0 0) := by
  have hm := hW.1
  intro n
  induction n with
  | zero =>
    intro c z h0 hn fu hfu
    obtain ⟨fu, rfl⟩ : ∃ g, fu = g + 1 := ⟨fu - 1, by omega⟩
    rw [F_X0_weddings_274, allF]
    show Op D s ls (if si s 2 8 ≤ iI c then _ else _) _ _
    rw [h.many, if_pos (by rw [iI_le (by omega) (by omega)]; omega)]
    exact (Op.done h.1 z).bnd
  | succ n ih =>
    intro c z h0 hn fu hfu
    obtain ⟨fu, rfl⟩ : ∃ g, fu = g + 1 := ⟨fu - 1, by omega⟩
    rw [F_X0_weddings_274, allF]
    show Op D s ls (if si s 2 8 ≤ iI c then _ else _) _ _
    rw [h.many, if_neg (by rw [iI_le (by omega) (by omega)]; omega), inb_g (by omega), iI_nat (by omega), h.1.2.1 30 c h0 (by show _ < _; omega), iI_add, nam_v, k_1, iI_add]
    exact ih (c + 1) (z + w' 30 c) (by omega) (by omega) fu (by omega)
theorem e_X0_weddings_84 {D : Nat → Prop} {w : WR} {ls : List (List DC)} (hW : Wf w ls) {n0 : Int} (hn0 : 1 ≤ n0 ∧ n0 ≤ 100) : ∀ (n : Nat) (k : Int) (s : St) (w' : WR), Wd D s w w' ls → 0 ≤ k → n0 = n + k → ∀ fu, n < fu → Op D s ls (F_X0_weddings_84 fu s (iI n0) (iI 0) (iI k)) (allF (wdsF w ls n w') (w 2 8).toNat 0 0) (wup (wdsF w ls n w') 0 0 0) := by
  have hm := hW.1
  intro n
  induction n with
  | zero =>
    intro k s w' h h0 hn fu hfu
    obtain ⟨fu, rfl⟩ : ∃ g, fu = g + 1 := ⟨fu - 1, by omega⟩
    rw [F_X0_weddings_84, wdsF]
    show Op D s ls (if iI n0 ≤ iI k then _ else _) _ _
    rw [if_pos (by rw [iI_le (by omega) (by omega)]; omega), k_0]
    exact e_X0_weddings_274 hW h (w 2 8).toNat 0 0 (by omega) (by omega) FU (FU_ge (by omega))
  | succ n ih =>
    intro k s w' h h0 hn fu hfu
    obtain ⟨fu, rfl⟩ : ∃ g, fu = g + 1 := ⟨fu - 1, by omega⟩
    have hs := laysL_sum hW (f := w 8 0) (sd := w 8 1)
    have hs2 : 1 ≤ sumW (nowL w ls) ∧ sumW (nowL w ls) ≤ 81 := hs
    have hln := h.2.2.2.1.2.2.2.2.2.2.2.1
    obtain ⟨s1, e1, h1, m1, r1⟩ := e_X0_draw h (n := sumW (nowL w ls)) (by omega)
    obtain ⟨s2, e2, h2, m2⟩ := e_X0_weddings_106 hW (n0 := n0) (all := 0) (k0 := k) (k := F_X0_weddings_84 fu) h1 (nowL w ls).length 0 (drV w' (sumW (nowL w ls))) (by omega) r1 FU (FU_ge (by omega))
    rw [F_X0_weddings_84, wdsF]
    show Op D s ls (if iI n0 ≤ iI k then _ else _) _ _
    rw [if_neg (by rw [iI_le (by omega) (by omega)]; omega), h.2.2.2.1.2.2.2.2.2.2.1, e1, bnd_s, k_0]
    have e2' : F_X0_weddings_106 (F_X0_weddings_84 fu) FU s1 (iI n0) (iI 0) (iI k) (iI (drV w' (sumW (nowL w ls)))) (iI 0) = F_X0_weddings_84 fu s2 (iI n0) (iI 0) (iI (k + 1)) := e2
    rw [e2']
    exact ((ih (k + 1) s2 _ h2 (by omega) (by omega) fu (by omega)).after m2).after m1
def clrF : Nat → Int → WR → WR
  | 0, _, w => w
  | n + 1, c, w => clrF n (c + 1) (wup (wup w 29 c 0) 30 c 0)
theorem e_X0_weddings_52 {D : Nat → Prop} {w : WR} {ls : List (List DC)} (hW : Wf w ls) {n0 : Int} (hn0 : 1 ≤ n0 ∧ n0 ≤ 100) : ∀ (n : Nat) (c : Int) (s : St) (w' : WR), Wd D s w w' ls → 0 ≤ c → 6 = n + c → ∀ fu, n < fu → Op D s ls (F_X0_weddings_52 fu s (iI n0) (iI 0) (iI c)) (allF (wdsF w ls n0.toNat (clrF n c w')) (w 2 8).toNat 0 0) (wup (wdsF w ls n0.toNat (clrF n c w')) 0 0 0) := by
  have hm := hW.1
  intro n
  induction n with
  | zero =>
    intro c s w' h h0 hn fu hfu
    obtain ⟨fu, rfl⟩ : ∃ g, fu = g + 1 := ⟨fu - 1, by omega⟩
    rw [F_X0_weddings_52, clrF]
    show Op D s ls (if (6 : Int32) ≤ iI c then _ else _) _ _
    rw [k_6, if_pos (by rw [iI_le (by omega) (by omega)]; omega), k_0]
    exact e_X0_weddings_84 hW hn0 n0.toNat 0 s w' h (by omega) (by omega) FU (FU_ge (by omega))
  | succ n ih =>
    intro c s w' h h0 hn fu hfu
    obtain ⟨fu, rfl⟩ : ∃ g, fu = g + 1 := ⟨fu - 1, by omega⟩
    rw [F_X0_weddings_52, clrF]
    show Op D s ls (if (6 : Int32) ≤ iI c then _ else _) _ _
    rw [k_6, if_neg (by rw [iI_le (by omega) (by omega)]; omega), inb_g (by omega), iI_nat (by omega), k_0, nam_v, inb_g (by omega), nam_v, k_1, iI_add]
    have h2 := (h.set (r := 29) (k := c) (v := 0) (Or.inl rfl) h0).set (r := 30) (k := c) (v := 0) (Or.inr rfl) h0
    exact (ih (c + 1) _ _ h2 (by omega) (by omega) fu (by omega)).after ((Sm.set (by decide)).tr (Sm.set (by decide)))
noncomputable def wdsS (w : WR) (ls : List (List DC)) (seed n : Int) : WR := wdsF w ls n.toNat (clrF 6 0 (wup (wup w 0 27 seed) 0 26 (w 2 8)))
noncomputable def weddingsV (w : WR) (ls : List (List DC)) (seed n : Int) : Int := if (0 ≤ seed ∧ seed ≤ 1000000) ∧ (1 ≤ n ∧ n ≤ 100) then allF (wdsS w ls seed n) (w 2 8).toNat 0 0 else -1
noncomputable def weddingsW (w : WR) (ls : List (List DC)) (seed n : Int) : WR := if (0 ≤ seed ∧ seed ≤ 1000000) ∧ (1 ≤ n ∧ n ≤ 100) then wup (wdsS w ls seed n) 0 0 0 else refW w (-1)
theorem x_weddings {D : Nat → Prop} {s : St} {w : WR} {ls : List (List DC)} (hC : C0 D s w ls) (hW : Wf w ls) {seed n : Int} (h1 : i32 seed) (h2 : i32 n) : Op D s ls (F_X0_weddings s (iI seed) (iI n)) (weddingsV w ls seed n) (weddingsW w ls seed n) := by
  have hm := hW.1
  unfold i32 at h1 h2
  have bad : ∀ s, C0 D s w ls → Op D s ls (F_X0_weddings_21 s) (-1) (refW w (-1)) := fun s hC => by
    unfold F_X0_weddings_21
    rw [k_m1]
    exact (Op.refuse hC (by omega)).bnd
  unfold F_X0_weddings weddingsV weddingsW
  rw [k_0, k_1, k_1000000, k_100, e_X0_in s (by omega) (by omega) (by omega), bnd_s]
  by_cases a1 : 0 ≤ seed ∧ seed ≤ 1000000
  · rw [if_neg (by rw [bZ_i0]; exact fun z => z a1), e_X0_in s (by omega) (by omega) (by omega), bnd_s]
    by_cases a2 : 1 ≤ n ∧ n ≤ 100
    · obtain ⟨s1, e1, hL, hF⟩ := e_X0_looks hC hW
      have c1 := hL.1.set 0 (k := 27) (v := seed) (by omega) (by decide)
      have c2 := c1.set 0 (k := 26) (v := w 2 8) (by omega) (by decide)
      have f : Fr (fun x => x = 0) s1 (setI (setI s1 0 27 (iI seed)) 0 26 (iI (w 2 8))) := Fr.tr (S := fun x => x = 0) (Fr.set rfl) (Fr.set rfl)
      have hwd : Wd D (setI (setI s1 0 27 (iI seed)) 0 26 (iI (w 2 8))) w (wup (wup w 0 27 seed) 0 26 (w 2 8)) ls := by
        refine ⟨c2, ?_, hL.2.2.1.fr f (by decide), hL.2.2.2.fr f (by decide) (by decide) (by decide), (Eq9.rf.up (by decide)).up (by decide), ?_⟩
        · rw [si_set, if_pos rfl, if_neg (by decide), si_set, if_pos rfl, if_neg (by decide)]
          exact hL.2.1
        · rw [wup_k (by decide), wup_s]
          omega
      have e28 : si (setI s1 0 27 (iI seed)) 2 8 = iI (w 2 8) := hL.1.2.1.many
      rw [if_neg (by rw [bZ_i0]; exact fun z => z a2), if_pos (And.intro a1 a2), if_pos (And.intro a1 a2), e1, bnd_s, nam_v, e28, nam_v]
      exact (e_X0_weddings_52 hW a2 6 0 _ _ hwd (by omega) (by omega) FU (FU_ge (by omega))).after (hF.smq.tr ((Sm.set (by decide)).tr (Sm.set (by decide))))
    · rw [if_pos (by rw [bZ_i0]; exact a2), if_neg (fun z => a2 z.2), if_neg (fun z => a2 z.2)]
      exact bad s hC
  · rw [if_pos (by rw [bZ_i0]; exact a1), if_neg (fun z => a1 z.1), if_neg (fun z => a1 z.1)]
    exact bad s hC

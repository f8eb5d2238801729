set_option maxRecDepth 100000
/-! ===== the model's reader: a part that is no bracket ===== -/
noncomputable def valV (ord : Bool) (T : Nat → Int) (n : Nat) : VP := if ord then ordV T n else lawV T n
noncomputable def lfS (ord : Bool) (T : Nat → Int) (n p l : Nat) : PR DS := @ite _ (isD T n p) (Classical.propDecidable _)
      (if l = 50 then .inl p else @ite _ (numP T n p 0 1000) (Classical.propDecidable _) (.inr (dNum (numZ T n p), nxt T n p, l + 1)) (.inl p))
      (match valV ord T n p l with
        | .inl q => .inl q
        | .inr (none, _, _) => .inl p
        | .inr (some k, p', l') => .inr (dVal k, p', l'))
theorem wdV_no {T : Nat → Int} {n base p l : Nat} : ∀ (c k : Nat), (∀ i, k ≤ i → i < k + c → ¬ tokIs T n p (strB (base + i))) → wdV T n base c k p l = .inr (none, p, l)
  | 0, _, _ => rfl
  | c + 1, k, h => by
    rw [wdV, if_neg (h k (Nat.le_refl _) (by omega))]
    exact wdV_no c (k + 1) fun i h1 h2 => h i (by omega) (by omega)
theorem wdV_hit {T : Nat → Int} {n base p l j : Nat} (ht : tokIs T n p (strB (base + j))) : ∀ (c k : Nat), (∀ i, k ≤ i → i < j → ¬ tokIs T n p (strB (base + i))) → k ≤ j → j < k + c → wdV T n base c k p l = if l = 50 then .inl p else .inr (some j, nxt T n p, l + 1)
  | 0, _, _, h1, h2 => by omega
  | c + 1, k, h, h1, h2 => by
    rw [wdV]
    by_cases e : k = j
    · rw [e, if_pos ht]
    · rw [if_neg (h k (Nat.le_refl _) (by omega))]
      exact wdV_hit ht c (k + 1) (fun i h3 h4 => h i (by omega) h4) (by omega) (by omega)
theorem tok_lt {T : Nat → Int} {n p : Nat} (hp : p ≤ n) {l : List Int} (hl : 1 ≤ l.length) (h : tokIs T n p l) : p < n := by
  have := (tkE_r (T := T) hp).2.1
  have := h.1
  omega
theorem wd_D {T : Nat → Int} {n p : Nat} {l : List Int} (hl : wdL l) (h : tokIs T n p l) : ¬ isD T n p := fun z => by
  have h1 := h.2 0 (by have := hl.1; omega)
  have h2 := hl.2 0 (by have := hl.1; omega)
  have h3 := z.2
  rw [Nat.add_zero] at h1
  omega
theorem num_0 {T : Nat → Int} {n p : Nat} (h : isD T n p) : 0 ≤ numZ T n p := by
  have h1 := wor_D h
  have h2 := dgC_r _ (tk_D h)
  have h3 : worZ T n p = dgC T p (tkE T n p - p) := by
    have a : ¬ isL T n p := fun z => by have := z.2; have := h.2; omega
    unfold worZ
    rw [if_neg a, if_pos h]
  omega
/-- which of its words it is -/
noncomputable def wrZ (ord : Bool) (T : Nat → Int) (n p : Nat) : Int := if ord then wfZ T n p 0 5 else wfZ T n p 31 14
theorem wrZ_r {ord : Bool} {T : Nat → Int} {n p : Nat} : -1 ≤ wrZ ord T n p ∧ wrZ ord T n p ≤ 14 ∧ wrZ ord T n p ≠ 0 := by
  unfold wrZ
  cases ord
  · have := wfZ_r (T := T) (n := n) (p := p) (base := 31) 14
    show -1 ≤ wfZ T n p 31 14 ∧ wfZ T n p 31 14 ≤ 14 ∧ wfZ T n p 31 14 ≠ 0
    omega
  · have := wfZ_r (T := T) (n := n) (p := p) (base := 0) 5
    show -1 ≤ wfZ T n p 0 5 ∧ wfZ T n p 0 5 ≤ 14 ∧ wfZ T n p 0 5 ≠ 0
    omega
theorem wrZ_D {ord : Bool} {T : Nat → Int} {n p : Nat} (h : isD T n p) : wrZ ord T n p = -1 := by
  unfold wrZ
  cases ord
  · show wfZ T n p 31 14 = -1
    rcases wfZ_r (T := T) (n := n) (p := p) (base := 31) 14 with h1 | h1
    · exact h1.1
    · exact absurd h (wd_D (wd_law _ (by omega)) h1.2.2)
  · show wfZ T n p 0 5 = -1
    rcases wfZ_r (T := T) (n := n) (p := p) (base := 0) 5 with h1 | h1
    · exact h1.1
    · have := wd_ord ((wfZ T n p 0 5).toNat - 1) (by omega)
      rw [Nat.zero_add] at h1
      exact absurd h (wd_D this h1.2.2)
theorem e_rp35 {ord : Bool} {t : St} {T : Nat → Int} {n p : Nat} (h : TkE t T n p) : F_X5_readPart_35 t (iI (wrZ ord T n p)) = F_X5_readPart_99 t (iI (wrZ ord T n p)) (iI (@ite _ (isD T n p ∧ numZ T n p ≤ 1000) (Classical.propDecidable _) (numZ T n p) 0)) (iI (if wrZ ord T n p = -1 then 0 else wrZ ord T n p)) (iI (bZ (wrZ ord T n p ≠ -1 ∨ (isD T n p ∧ numZ T n p ≤ 1000)))) := by
  have hr := wrZ_r (ord := ord) (T := T) (n := n) (p := p)
  have h17 := h.2.2.2.2.1
  have h18 := h.2.2.2.2.2
  have hw := worZ_r (T := T) (n := n) (p := p)
  have hs := sortZ_r (T := T) (n := n) (p := p)
  have g86 : ∀ z op : Int, ∀ z1 : Int32, (z = 0 ∨ z = 1) → F_X5_readPart_86 t (iI (wrZ ord T n p)) (iI z) (iI op) z1 = F_X5_readPart_99 t (iI (wrZ ord T n p)) (if z = 0 then iI 0 else (lI (worZ T n p)).toInt32) (iI op) z1 := fun z op z1 hz => by
    unfold F_X5_readPart_86
    rw [k_0, h18]
    rcases hz with rfl | rfl
    · rw [if_pos rfl, if_pos rfl]
    · rw [if_neg (by decide), if_neg (by decide)]
  have g76 : ∀ z : Int, ∀ z1 : Int32, (z = 0 ∨ z = 1) → F_X5_readPart_76 t (iI (wrZ ord T n p)) (iI z) z1 = F_X5_readPart_99 t (iI (wrZ ord T n p)) (if z = 0 then iI 0 else (lI (worZ T n p)).toInt32) (iI (if wrZ ord T n p = -1 then 0 else wrZ ord T n p)) z1 := fun z z1 hz => by
    unfold F_X5_readPart_76
    rw [k_m1, k_0]
    by_cases a : wrZ ord T n p = -1
    · rw [if_pos (by rw [a]), g86 _ _ _ hz, if_pos a]
    · rw [if_neg (by rw [iI_eq (by omega) (by omega)]; exact a), g86 _ _ _ hz, if_neg a]
  have g60 : ∀ z : Int, (z = 0 ∨ z = 1) → F_X5_readPart_60 t (iI (wrZ ord T n p)) (iI z) = F_X5_readPart_99 t (iI (wrZ ord T n p)) (if z = 0 then iI 0 else (lI (worZ T n p)).toInt32) (iI (if wrZ ord T n p = -1 then 0 else wrZ ord T n p)) (iI (bZ (wrZ ord T n p ≠ -1 ∨ z = 1))) := fun z hz => by
    unfold F_X5_readPart_60 F_X5_readPart_71
    rw [k_m1, k_0, k_1]
    by_cases a : wrZ ord T n p = -1
    · rw [if_pos (by rw [a])]
      rcases hz with rfl | rfl
      · rw [if_pos rfl, g76 _ _ (Or.inl rfl), bZ_f (by omega)]
      · rw [if_neg (by decide), g76 _ _ (Or.inr rfl), bZ_t (by omega)]
    · rw [if_neg (by rw [iI_eq (by omega) (by omega)]; exact a), g76 _ _ hz, bZ_t (Or.inl a)]
  have fin : ∀ (z : Int) (A : Int), (z = 0 ∨ z = 1) → (if z = 0 then iI 0 else (lI (worZ T n p)).toInt32) = iI A → A = (@ite _ (isD T n p ∧ numZ T n p ≤ 1000) (Classical.propDecidable _) (numZ T n p) 0) → (z = 1 ↔ isD T n p ∧ numZ T n p ≤ 1000) → F_X5_readPart_60 t (iI (wrZ ord T n p)) (iI z) = F_X5_readPart_99 t (iI (wrZ ord T n p)) (iI (@ite _ (isD T n p ∧ numZ T n p ≤ 1000) (Classical.propDecidable _) (numZ T n p) 0)) (iI (if wrZ ord T n p = -1 then 0 else wrZ ord T n p)) (iI (bZ (wrZ ord T n p ≠ -1 ∨ (isD T n p ∧ numZ T n p ≤ 1000)))) := fun z A hz e1 e2 e3 => by
    rw [g60 z hz, e1, ← e2, show (wrZ ord T n p ≠ -1 ∨ z = 1) = (wrZ ord T n p ≠ -1 ∨ isD T n p ∧ numZ T n p ≤ 1000) by rw [propext e3]]
  unfold F_X5_readPart_35 F_X5_readPart_59
  rw [h17, h18, k_2, k_0, k_1, K_1000]
  by_cases a : isD T n p
  · obtain ⟨e1, e2⟩ := wor_D a
    rw [e1, if_pos rfl]
    by_cases b : numZ T n p ≤ 1000
    · have e3 : worZ T n p = numZ T n p := by omega
      rw [if_neg (by rw [lI_lt (by omega) (by omega)]; omega)]
      exact fin 1 (numZ T n p) (Or.inr rfl) (by rw [if_neg (by decide), e3, lI_i (by have := num_0 a; omega)]) (by rw [if_pos ⟨a, b⟩]) ⟨fun _ => ⟨a, b⟩, fun _ => rfl⟩
    · rw [if_pos (by rw [lI_lt (by omega) (by omega)]; omega)]
      exact fin 0 0 (Or.inl rfl) (by rw [if_pos rfl]) (by rw [if_neg (fun z => b z.2)]) ⟨fun z => by omega, fun z => absurd z.2 b⟩
  · have := sort_D a
    rw [if_neg (by rw [iI_eq (by omega) (by omega)]; exact this)]
    exact fin 0 0 (Or.inl rfl) (by rw [if_pos rfl]) (by rw [if_neg (fun z => a z.1)]) ⟨fun z => by omega, fun z => absurd z.1 a⟩
/-- the spec of words, by which word it is -/
noncomputable def vwS (ord : Bool) (T : Nat → Int) (n p l : Nat) : VR :=
  if wrZ ord T n p = -1 then .inr (none, p, l)
  else if l = 50 then .inl p
  else if ord = true ∧ 4 ≤ wrZ ord T n p then @ite _ (numP T n (nxt T n p) 0 5) (Classical.propDecidable _) (.inr (some ((if wrZ ord T n p = 4 then 3 else 9) + (numZ T n (nxt T n p)).toNat), nxt T n (nxt T n p), l + 1)) (.inl (nxt T n p))
  else .inr (some ((wrZ ord T n p).toNat - 1), nxt T n p, l + 1)
theorem valV_w {ord : Bool} {T : Nat → Int} {n p l : Nat} : valV ord T n p l = vwS ord T n p l := by
  unfold valV vwS wrZ
  cases ord
  · show lawV T n p l = if wfZ T n p 31 14 = -1 then _ else _
    unfold lawV
    rcases wfZ_r (T := T) (n := n) (p := p) (base := 31) 14 with h1 | h1
    · rw [if_pos h1.1]
      exact wdV_no 14 0 fun i _ h2 => h1.2 i (by omega)
    · rw [if_neg (by omega), wdV_hit h1.2.2 14 0 (fun i h2 h3 z => by
        have := str_un (by omega) (by omega) z h1.2.2
        omega) (by omega) (by omega)]
      show _ = if l = 50 then (Sum.inl p : VR) else if (false = true ∧ 4 ≤ wfZ T n p 31 14) then _ else _
      rw [if_neg (show ¬ (false = true ∧ 4 ≤ wfZ T n p 31 14) from fun z => by cases z.1)]
      rfl
  · show ordV T n p l = if wfZ T n p 0 5 = -1 then _ else if l = 50 then (Sum.inl p : VR) else if (true = true ∧ 4 ≤ wfZ T n p 0 5) then _ else _
    unfold ordV nV
    rcases wfZ_r (T := T) (n := n) (p := p) (base := 0) 5 with h1 | h1
    · have h2 : ∀ i, i < 5 → ¬ tokIs T n p (strB i) := fun i hi => by have := h1.2 i hi; rw [Nat.zero_add] at this; exact this
      rw [if_pos h1.1, if_neg (h2 0 (by omega)), if_neg (h2 1 (by omega)), if_neg (h2 2 (by omega)), if_neg (h2 3 (by omega)), if_neg (h2 4 (by omega))]
    · rw [Nat.zero_add] at h1
      have hno : ∀ i, i < 5 → i ≠ (wfZ T n p 0 5).toNat - 1 → ¬ tokIs T n p (strB i) := fun i hi hne z => hne (str_un (by omega) (by omega) z h1.2.2)
      have h0 : 0 ≤ wfZ T n p 0 5 := by omega
      rw [if_neg (show ¬ wfZ T n p 0 5 = -1 by omega)]
      generalize hz : wfZ T n p 0 5 = z at h1 hno h0 ⊢
      have : z = 1 ∨ z = 2 ∨ z = 3 ∨ z = 4 ∨ z = 5 := by omega
      rcases this with rfl | rfl | rfl | rfl | rfl
      · rw [if_pos (show tokIs T n p (strB 0) from h1.2.2)]
        by_cases a : l = 50
        · rw [if_pos a, if_pos a]
        · rw [if_neg a, if_neg a, if_neg (show ¬ (true = true ∧ (4 : Int) ≤ 1) by decide)]
          rfl
      · rw [if_neg (hno 0 (by omega) (by decide)), if_pos (show tokIs T n p (strB 1) from h1.2.2)]
        by_cases a : l = 50
        · rw [if_pos a, if_pos a]
        · rw [if_neg a, if_neg a, if_neg (show ¬ (true = true ∧ (4 : Int) ≤ 2) by decide)]
          rfl
      · rw [if_neg (hno 0 (by omega) (by decide)), if_neg (hno 1 (by omega) (by decide)), if_pos (show tokIs T n p (strB 2) from h1.2.2)]
        by_cases a : l = 50
        · rw [if_pos a, if_pos a]
        · rw [if_neg a, if_neg a, if_neg (show ¬ (true = true ∧ (4 : Int) ≤ 3) by decide)]
          rfl
      · rw [if_neg (hno 0 (by omega) (by decide)), if_neg (hno 1 (by omega) (by decide)), if_neg (hno 2 (by omega) (by decide)), if_pos (show tokIs T n p (strB 3) from h1.2.2)]
        by_cases a : l = 50
        · rw [if_pos a, if_pos a]
        · rw [if_neg a, if_neg a, if_pos (show (true = true ∧ (4 : Int) ≤ 4) by decide)]
          rfl
      · rw [if_neg (hno 0 (by omega) (by decide)), if_neg (hno 1 (by omega) (by decide)), if_neg (hno 2 (by omega) (by decide)), if_neg (hno 3 (by omega) (by decide)), if_pos (show tokIs T n p (strB 4) from h1.2.2)]
        by_cases a : l = 50
        · rw [if_pos a, if_pos a]
        · rw [if_neg a, if_neg a, if_pos (show (true = true ∧ (4 : Int) ≤ 5) by decide)]
          rfl
/-- what comes of a part -/
def LfO (ord : Bool) (t : St) (T : Nat → Int) (n p l : Nat) (P : List (Int × Nat)) (C : CD) (nc d : Nat) (x : Option (Int32 × St)) : PR DS → Prop
  | .inl q => ∃ t', x = some (iI 3, t') ∧ BdM ord t' T n q ∧ Fm Sex t t'
  | .inr (f, p', l') => ∃ t' y, x = some (iI 3, t') ∧ RdM ord t' T n p' P (upC C nc y) (nc + 1) l' d ∧ Fm Sex t t' ∧ ClS ord (upC C nc y) nc (nc + 1) f ∧ (p < p' ∧ p' ≤ n) ∧ l' ≤ 50
theorem wrZ_lt {ord : Bool} {T : Nat → Int} {n p : Nat} (hp : p ≤ n) (h : wrZ ord T n p ≠ -1) : p < n := by
  unfold wrZ at h
  cases ord
  · have h : wfZ T n p 31 14 ≠ -1 := h
    rcases wfZ_r (T := T) (n := n) (p := p) (base := 31) 14 with h1 | h1
    · exact absurd h1.1 h
    · exact tok_lt hp (wd_law _ (by omega)).1.1 h1.2.2
  · have h : wfZ T n p 0 5 ≠ -1 := h
    rcases wfZ_r (T := T) (n := n) (p := p) (base := 0) 5 with h1 | h1
    · exact absurd h1.1 h
    · rw [Nat.zero_add] at h1
      exact tok_lt hp (wd_ord _ (by omega)).1.1 h1.2.2
theorem wrZ_o {T : Nat → Int} {n p : Nat} : wrZ true T n p ≤ 5 := by
  show wfZ T n p 0 5 ≤ 5
  have := wfZ_r (T := T) (n := n) (p := p) (base := 0) 5
  omega
theorem e_X5_readPart {ord : Bool} {t : St} {T : Nat → Int} {n p : Nat} {P : List (Int × Nat)} {C : CD} {nc l d : Nat} (h : RdM ord t T n p P C nc l d) (hl : l ≤ 50) (hs : ¬ tokIs T n p (strB 11)) : LfO ord t T n p l P C nc d (F_X5_readPart t) (lfS ord T n p l) := by
  have hr := wrZ_r (ord := ord) (T := T) (n := n) (p := p)
  have hpn := h.p
  have hE := h.1.1
  have e1 : F_X5_readPart t = F_X5_readPart_35 t (iI (wrZ ord T n p)) := by
    unfold F_X5_readPart wrZ
    rw [show (91 : Int32) = iI 91 from rfl, e_X5_isSign hE (by unfold sgC; omega), bnd_s, k_0, if_pos (by rw [bZ_i0]; exact hs), h.2.1.2.2.2.1.2.2]
    cases ord
    · rw [if_pos (by rfl), e_X5_partAt hE h.2.2.1, bnd_s]
      rfl
    · rw [if_neg (by decide), e_X5_orderPartAt hE h.2.2.1, bnd_s]
      rfl
  rw [e1, e_rp35 hE]
  unfold F_X5_readPart_99 lfS
  have h21 := h.2.1.2.2.2.1.2.2
  have lf := fun (op arg : Int) (Q : Prop) (hQ : Q → p < n) => e_leaf h (op := op) (arg := arg) (Q := Q) hQ hl
  have bad : ∀ t' : St, si t' 0 20 = iI 1 → ∀ K : Option (Int32 × St), (if si t' 0 21 = 0 then some ((3 : Int32), t') else if iI (wrZ ord T n p) < (4 : Int32) then some ((3 : Int32), t') else if si t' 0 20 = 0 then K else some ((3 : Int32), t')) = some (iI 3, t') := fun t' e K => by
    rw [e, if_neg (show ¬ iI 1 = (0 : Int32) by decide), k_3, ite_self, ite_self]
  by_cases a : isD T n p
  · rw [if_pos a, wrZ_D a, if_pos rfl]
    have n0 := num_0 a
    by_cases b : l = 50
    · obtain ⟨t', e, g1, f1⟩ := (lf 0 (@ite _ (isD T n p ∧ numZ T n p ≤ 1000) (Classical.propDecidable _) (numZ T n p) 0) ((-1 : Int) ≠ -1 ∨ isD T n p ∧ numZ T n p ≤ 1000) fun _ => a.1).2 (by omega)
      have := bad t' g1.1.2.1
      rw [wrZ_D a] at this
      rw [if_pos b, e, bnd_s]
      exact ⟨t', this _, g1, f1⟩
    · rw [if_neg b]
      by_cases c : numZ T n p ≤ 1000
      · obtain ⟨t', e, g1, f1⟩ := (lf 0 (@ite _ (isD T n p ∧ numZ T n p ≤ 1000) (Classical.propDecidable _) (numZ T n p) 0) ((-1 : Int) ≠ -1 ∨ isD T n p ∧ numZ T n p ≤ 1000) fun _ => a.1).1 ⟨Or.inr ⟨a, c⟩, by omega⟩
        rw [if_pos (show numP T n p 0 1000 from ⟨a, n0, c⟩), e, bnd_s]
        rw [if_pos ⟨a, c⟩] at g1
        refine ⟨t', _, ?_, g1, f1, ClS.leaf upC_s (Or.inl ⟨rfl, n0, c⟩) rfl, (nxt_r (T := T) hpn.1).2.2 a.1 |> fun z => ⟨z, (nxt_r (T := T) hpn.1).2.1⟩, by omega⟩
        rw [if_pos (show iI (-1) < (4 : Int32) by decide), k_3, ite_self]
      · obtain ⟨t', e, g1, f1⟩ := (lf 0 (@ite _ (isD T n p ∧ numZ T n p ≤ 1000) (Classical.propDecidable _) (numZ T n p) 0) ((-1 : Int) ≠ -1 ∨ isD T n p ∧ numZ T n p ≤ 1000) fun _ => a.1).2 (by omega)
        have := bad t' g1.1.2.1
        rw [wrZ_D a] at this
        rw [if_neg (show ¬ numP T n p 0 1000 from fun z => c z.2.2), e, bnd_s]
        exact ⟨t', this _, g1, f1⟩
  · rw [if_neg a, valV_w, if_neg (show ¬ (isD T n p ∧ numZ T n p ≤ 1000) from fun z => a z.1)]
    unfold vwS
    by_cases b : wrZ ord T n p = -1
    · obtain ⟨t', e, g1, f1⟩ := (lf 0 0 (wrZ ord T n p ≠ -1 ∨ isD T n p ∧ numZ T n p ≤ 1000) (fun z => absurd z (by rw [b]; rintro (z | z); exact z rfl; exact a z.1))).2 (fun z => by rcases z.1 with z | z; exact z b; exact a z.1)
      rw [if_pos b, if_pos b, e, bnd_s]
      exact ⟨t', bad t' g1.1.2.1 _, g1, f1⟩
    · have hlt := wrZ_lt hpn.1 b
      have hnx := nxt_r (T := T) hpn.1
      rw [if_neg b, if_neg b]
      by_cases c : l = 50
      · obtain ⟨t', e, g1, f1⟩ := (lf (wrZ ord T n p) 0 (wrZ ord T n p ≠ -1 ∨ isD T n p ∧ numZ T n p ≤ 1000) fun _ => hlt).2 (by omega)
        rw [if_pos c, e, bnd_s]
        exact ⟨t', bad t' g1.1.2.1 _, g1, f1⟩
      · obtain ⟨t', e, g1, f1⟩ := (lf (wrZ ord T n p) 0 (wrZ ord T n p ≠ -1 ∨ isD T n p ∧ numZ T n p ≤ 1000) fun _ => hlt).1 ⟨Or.inl b, by omega⟩
        have g21 := g1.2.1.2.2.2.1.2.2
        rw [if_neg c, e, bnd_s, g21]
        cases ord
        · rw [if_neg (show ¬ (false = true ∧ 4 ≤ wrZ false T n p) from fun z => by cases z.1), if_pos (show iI (ordI false) = (0 : Int32) from rfl)]
          refine ⟨t', _, rfl, g1, f1, ClS.leaf upC_s (Or.inr (Or.inl ⟨rfl, by omega, by omega⟩)) ?_, ⟨by omega, hnx.2.1⟩, by omega⟩
          funext v
          unfold lfV dVal
          rw [if_neg hr.2.2, if_neg (fun z => by cases z.1), if_neg (fun z => by cases z.1)]
        · rw [if_neg (show ¬ iI (ordI true) = (0 : Int32) by decide)]
          have h5 := wrZ_o (T := T) (n := n) (p := p)
          by_cases k4 : wrZ true T n p < 4
          · rw [if_neg (show ¬ (true = true ∧ 4 ≤ wrZ true T n p) by omega), k_4, if_pos (by rw [iI_lt (by omega) (by omega)]; exact k4)]
            refine ⟨t', _, rfl, g1, f1, ClS.leaf upC_s (Or.inr (Or.inr (Or.inl ⟨rfl, by omega, by omega⟩))) ?_, ⟨by omega, hnx.2.1⟩, by omega⟩
            funext v
            unfold lfV dVal
            rw [if_neg hr.2.2, if_neg (by omega), if_neg (by omega)]
          · rw [if_pos (show (true = true ∧ 4 ≤ wrZ true T n p) from ⟨rfl, by omega⟩), k_4, if_neg (by rw [iI_lt (by omega) (by omega)]; exact k4), g1.1.2.1, k_0, if_pos rfl, K_0, K_5]
            obtain ⟨n1, n2⟩ := e_X5_number g1.1 (lo := 0) (hi := 5) (by omega) (by omega)
            have g24 := g1.2.1.2.2.1.1
            have hp2 := g1.p
            have hnc := g1.2.1.2.2.2.2
            have hnx2 := nxt_r (T := T) hp2.1
            rw [g24, k_1, iI_sub, show (((nc + 1 : Nat) : Int) - 1) = (nc : Int) by omega]
            by_cases k5 : numP T n (nxt T n p) 0 5
            · obtain ⟨t2, e2, g2, f2⟩ := n1 k5
              have r2 := g1.nx g2 f2 (hnx2.1)
              have f3 : Fm (fun a j => a = 13 ∧ j = nc) t2 (setI t2 13 nc (iI (numZ T n (nxt T n p)))) := Fm.set ⟨rfl, rfl⟩
              rw [if_pos k5, e2, bnd_s, inb_g (by omega), iI_nat (by omega), Int.toNat_natCast, nam_v]
              have f3' : Fm Spc t2 (setI t2 13 nc (iI (numZ T n (nxt T n p)))) := f3.le fun a j z => by unfold Spc; omega
              refine ⟨setI t2 13 nc (iI (numZ T n (nxt T n p))), (wrZ true T n p, numZ T n (nxt T n p)), rfl, ⟨r2.1.pc f3', ⟨⟨r2.2.1.1.1.go fun k hk => ⟨f3.i _ _ (by omega), f3.i _ _ (by omega)⟩, r2.2.1.1.2⟩, r2.2.1.2.1, ⟨r2.2.1.2.2.1.1, fun k hk => ?_⟩, r2.2.1.2.2.2.1, r2.2.1.2.2.2.2⟩, r2.2.2.1.ex (f3'.le fun _ _ => Or.inr), r2.2.2.2⟩, (f1.tr (f2.le fun _ _ => Or.inl)).tr (f3'.le fun _ _ => Or.inr), ClS.leaf upC_s (Or.inr (Or.inr (Or.inr ⟨rfl, by omega, h5, k5.2⟩))) ?_, ⟨by omega, hnx2.2.1⟩, by omega⟩
              · have := r2.2.1.2.2.1.2 k hk
                by_cases e : k = nc
                · rw [e, upC_s] at this ⊢
                  exact ⟨this.1, by rw [si_set, if_pos rfl, if_pos rfl]⟩
                · rw [upC_n e] at this ⊢
                  rw [f3.i _ _ (by omega), f3.i _ _ (by omega)]
                  exact this
              · funext v
                unfold lfV dVal
                rw [if_neg hr.2.2]
                by_cases k6 : wrZ true T n p = 4
                · rw [if_pos k6, if_pos ⟨rfl, k6⟩]
                · rw [if_neg k6, if_neg (fun z => k6 z.2), if_pos ⟨rfl, by omega⟩]
            · obtain ⟨t2, v, e2, g2, f2⟩ := n2 k5
              rw [if_neg k5, e2, bnd_s, inb_g (by omega), iI_nat (by omega), Int.toNat_natCast, nam_v]
              have f3 : Fm (fun a j => a = 13 ∧ j = nc) t2 (setI t2 13 nc v) := Fm.set ⟨rfl, rfl⟩
              have f3' : Fm Spc t2 (setI t2 13 nc v) := f3.le fun a j z => by unfold Spc; omega
              have m2 := g1.2.1.mu f2
              have w2 := g1.2.2.1.ex (f2.le fun _ _ => Or.inl)
              refine ⟨setI t2 13 nc v, rfl, ⟨g2.pc f3', w2.ex (f3'.le fun _ _ => Or.inr), P, upC (upC C nc (wrZ true T n p, 0)) nc (wrZ true T n p, v.toInt), nc + 1, l + 1, d, ⟨m2.1.1.go fun k hk => ⟨f3.i _ _ (by omega), f3.i _ _ (by omega)⟩, m2.1.2⟩, m2.2.1, ⟨m2.2.2.1.1, fun k hk => ?_⟩, m2.2.2.2.1, m2.2.2.2.2⟩, (f1.tr (f2.le fun _ _ => Or.inl)).tr (f3'.le fun _ _ => Or.inr)⟩
              have := m2.2.2.1.2 k hk
              by_cases e : k = nc
              · rw [e, upC_s] at this
                rw [e, upC_s, iI_of]
                exact ⟨this.1, by rw [si_set, if_pos rfl, if_pos rfl]⟩
              · rw [upC_n e] at this
                rw [upC_n e, upC_n e, f3.i _ _ (by omega), f3.i _ _ (by omega)]
                exact this

set_option maxRecDepth 100000
/-! ===== texts: the values' words; clauses ===== -/
theorem e_vstep {R : Nat} {T : Nat → Int} {n p l d m i k tag : Nat} {s : St} (h : Pre s R T n p l d m) (hi : i < 45) (ht : (sk s R).1 = tag) {g : St → Option ((Int32 ⊕ Nat) × St)} {rest : VR} (hg : ¬ tokIs T n p (strB i) → VO R T n p l d m s (g s) rest) {kk : Int32} (hkk : kk = iI k) (hk : k < 15) : VO R T n p l d m s (gd (isK s R tag) <| bnx (F_X6_isValue s R (some (1000000000 + i))) (fun b5 s3 => some (.inr b5, s3)) <| fun r2 s3 => if r2 = 0 then g s3 else some (.inl kk, s3)) (@ite _ (tokIs T n p (strB i)) (Classical.propDecidable _) (if l = 50 then .inl p else .inr (some k, nxt T n p, l + 1)) rest) := by
  obtain ⟨o1, o2, o3⟩ := e_X6_isValue h.1 h.2.1 h.2.2.1.r8 h.2.2.2.1 hi
  have hl := h.2.2.2.1
  have hp := h.1.pos
  rw [isK_g ht]
  by_cases a : tokIs T n p (strB i)
  · rw [if_pos a]
    by_cases l50 : l = 50
    · obtain ⟨s1, b1, e1, f1, p1⟩ := o3 a l50
      rw [if_pos l50, e1, bnx_ir]
      exact ⟨s1, b1, rfl, f1, p1⟩
    · obtain ⟨s1, e1, r1, x1⟩ := o2 a (by omega)
      have hlt : p < n := by
        have := a.1
        by_cases hpn : p < n
        · exact hpn
        · exfalso
          have ht := tkE_r (T := T) hp.1
          have hlen : (strB i).length ≠ 0 := by
            have : ∀ i, i < 45 → (sbyt.getD i []).length ≠ 0 := by decide
            rw [strB_l]
            exact this i hi
          omega
      have hnx := nxt_r (T := T) hp.1
      rw [if_neg l50, e1, bnx_il, if_neg (by decide), hkk]
      exact ⟨s1, rfl, r1, x1, ⟨hnx.2.2 hlt, hnx.2.1⟩, ⟨rfl, by omega⟩, hk⟩
  · rw [if_neg a, o1 a, bnx_il, if_pos (by decide)]
    exact hg a
noncomputable def wdV (T : Nat → Int) (n base : Nat) : Nat → Nat → Nat → Nat → VR
  | 0, _, p, l => .inr (none, p, l)
  | c + 1, k, p, l => @ite _ (tokIs T n p (strB (base + k))) (Classical.propDecidable _) (if l = 50 then .inl p else .inr (some k, nxt T n p, l + 1)) (wdV T n base c (k + 1) p l)
noncomputable def lawV (T : Nat → Int) (n p l : Nat) : VR := wdV T n 31 14 0 p l
theorem e_X7_value {R : Nat} {T : Nat → Int} {n p l d m : Nat} {s : St} (h : Pre s R T n p l d m) (ht : (sk s R).1 = 6) : VO R T n p l d m s (F_valueD s R) (lawV T n p l) := by
  unfold F_valueD
  rw [if_neg (by rw [isK_n ht (by decide)]; decide), if_pos (isK_b ht)]
  unfold F_X7_value lawV
  refine e_vstep (i := 31) (k := 0) h (by decide) ht (fun _ => ?_) rfl (by decide)
  refine e_vstep (i := 32) (k := 1) h (by decide) ht (fun _ => ?_) rfl (by decide)
  refine e_vstep (i := 33) (k := 2) h (by decide) ht (fun _ => ?_) rfl (by decide)
  refine e_vstep (i := 34) (k := 3) h (by decide) ht (fun _ => ?_) rfl (by decide)
  refine e_vstep (i := 35) (k := 4) h (by decide) ht (fun _ => ?_) rfl (by decide)
  refine e_vstep (i := 36) (k := 5) h (by decide) ht (fun _ => ?_) rfl (by decide)
  refine e_vstep (i := 37) (k := 6) h (by decide) ht (fun _ => ?_) rfl (by decide)
  refine e_vstep (i := 38) (k := 7) h (by decide) ht (fun _ => ?_) rfl (by decide)
  refine e_vstep (i := 39) (k := 8) h (by decide) ht (fun _ => ?_) rfl (by decide)
  refine e_vstep (i := 40) (k := 9) h (by decide) ht (fun _ => ?_) rfl (by decide)
  refine e_vstep (i := 41) (k := 10) h (by decide) ht (fun _ => ?_) rfl (by decide)
  refine e_vstep (i := 42) (k := 11) h (by decide) ht (fun _ => ?_) rfl (by decide)
  refine e_vstep (i := 43) (k := 12) h (by decide) ht (fun _ => ?_) rfl (by decide)
  refine e_vstep (i := 44) (k := 13) h (by decide) ht (fun _ => ?_) rfl (by decide)
  rfl
/-- a word and a number behind it -/
noncomputable def nV (T : Nat → Int) (n base p l : Nat) : VR := if l = 50 then .inl p else @ite _ (numP T n (nxt T n p) 0 5) (Classical.propDecidable _) (.inr (some (base + (numZ T n (nxt T n p)).toNat), nxt T n (nxt T n p), l + 1)) (.inl (nxt T n p))
noncomputable def ordV (T : Nat → Int) (n p l : Nat) : VR :=
  @ite _ (tokIs T n p (strB 0)) (Classical.propDecidable _) (if l = 50 then .inl p else .inr (some 0, nxt T n p, l + 1))
  (@ite _ (tokIs T n p (strB 1)) (Classical.propDecidable _) (if l = 50 then .inl p else .inr (some 1, nxt T n p, l + 1))
  (@ite _ (tokIs T n p (strB 2)) (Classical.propDecidable _) (if l = 50 then .inl p else .inr (some 2, nxt T n p, l + 1))
  (@ite _ (tokIs T n p (strB 3)) (Classical.propDecidable _) (nV T n 3 p l)
  (@ite _ (tokIs T n p (strB 4)) (Classical.propDecidable _) (nV T n 9 p l) (.inr (none, p, l))))))
theorem e_nstep {R : Nat} {T : Nat → Int} {n p l d m i base : Nat} {s : St} (h : Pre s R T n p l d m) (hi : i < 45) (ht : (sk s R).1 = 17) {g : St → Option ((Int32 ⊕ Nat) × St)} {rest : VR} (hg : ¬ tokIs T n p (strB i) → VO R T n p l d m s (g s) rest) {kk : Int32} (hkk : kk = iI base) (hk : base ≤ 9) {len : Nat} (hlen : (strB i).length = len) (hl0 : 0 < len) : VO R T n p l d m s (gd (isK s R 17) <| bnx (F_X6_isValue s R (some (1000000000 + i))) (fun b5 s3 => some (.inr b5, s3)) <| fun r2 s3 => if r2 = 0 then g s3 else (gd (isK s3 R 17) <| bnx (F_X6_number s3 R (0 : Int32) (5 : Int32)) (fun b35 s33 => some (.inr b35, s33)) <| fun r32 s33 => some (.inl (kk + r32), s33))) (@ite _ (tokIs T n p (strB i)) (Classical.propDecidable _) (nV T n base p l) rest) := by
  obtain ⟨o1, o2, o3⟩ := e_X6_isValue h.1 h.2.1 h.2.2.1.r8 h.2.2.2.1 hi
  have hl := h.2.2.2.1
  have hp := h.1.pos
  rw [isK_g ht]
  by_cases a : tokIs T n p (strB i)
  · unfold nV
    rw [if_pos a]
    by_cases l50 : l = 50
    · obtain ⟨s1, b1, e1, f1, p1⟩ := o3 a l50
      rw [if_pos l50, e1, bnx_ir]
      exact ⟨s1, b1, rfl, f1, p1⟩
    · obtain ⟨s1, e1, r1, x1⟩ := o2 a (by omega)
      have hw := tokW a hlen hl0 hp.1
      have hnx := nxt_r (T := T) hp.1
      have hnx2 := nxt_r (T := T) hnx.2.1
      have h1 : Pre s1 R T n (nxt T n p) (l + 1) d m := h.nx r1 x1 hnx.1 (by omega) h.2.2.2.2.1
      obtain ⟨q1, q2⟩ := e_X6_number (p0 := nxt T n p) r1 h1.2.1 h1.2.2.1.r8 (lo := 0) (hi := 5) (by omega) (by omega)
      rw [if_neg l50, e1, bnx_il, if_neg (by decide), isK_g (by rw [x1.1]; exact ht), k_0, k_5]
      by_cases b : numP T n (nxt T n p) 0 5
      · obtain ⟨s2, e2, r2, x2⟩ := q1 b
        have hlt : nxt T n p < n := b.1.1
        have hb2 := b.2
        have hz : ((base + (numZ T n (nxt T n p)).toNat : Nat) : Int) = base + numZ T n (nxt T n p) := by omega
        rw [if_pos b, e2, bnx_il, hkk, iI_add, ← hz]
        exact ⟨s2, rfl, r2, x1.tr x2, ⟨by have := hnx2.2.2 hlt; omega, hnx2.2.1⟩, ⟨rfl, by omega⟩, by omega⟩
      · obtain ⟨s2, b2, e2, f2, p2⟩ := q2 b
        rw [if_neg b, e2, bnx_ir]
        exact ⟨s2, b2, rfl, f2, ((x1.pf (k := 0) (m := 0)).tr p2).le (by omega) (by omega)⟩
  · rw [if_neg a, o1 a, bnx_il, if_pos (by decide)]
    exact hg a
theorem e_X20_value {R : Nat} {T : Nat → Int} {n p l d m : Nat} {s : St} (h : Pre s R T n p l d m) (ht : (sk s R).1 = 17) : VO R T n p l d m s (F_valueD s R) (ordV T n p l) := by
  unfold F_valueD
  rw [if_pos (isK_b ht)]
  unfold F_X20_value ordV
  refine e_vstep (i := 0) (k := 0) h (by decide) ht (fun _ => ?_) rfl (by decide)
  refine e_vstep (i := 1) (k := 1) h (by decide) ht (fun _ => ?_) rfl (by decide)
  refine e_vstep (i := 2) (k := 2) h (by decide) ht (fun _ => ?_) rfl (by decide)
  refine e_nstep (i := 3) (base := 3) h (by decide) ht (fun _ => ?_) rfl (by decide) (len := 4) (by decide) (by decide)
  refine e_nstep (i := 4) (base := 9) h (by decide) ht (fun _ => ?_) rfl (by decide) (len := 6) (by decide) (by decide)
  rfl
/-- a list of things that are read -/
def Lis {γ : Type} (QC : St → Nat → Nat → Nat → γ → Prop) (s : St) (lo L b c : Nat) (cs : List γ) (f : Nat → Nat) : Prop :=
  LstE s L b c cs.length f ∧ Tl s L cs.length ∧ (∀ i x, cs[i]? = some x → ∃ lo1 hi1, (lo ≤ lo1 ∧ hi1 ≤ sn s) ∧ QC s lo1 hi1 (f i) x ∧ ¬ (lo1 ≤ L ∧ L < hi1) ∧ ¬ (lo1 ≤ b ∧ b < hi1)) ∧ (lo ≤ L ∧ L < sn s) ∧ (lo ≤ b ∧ b < sn s) ∧ L ≠ b
/-- what the things are good for -/
def QOk {γ : Type} (QC : St → Nat → Nat → Nat → γ → Prop) : Prop := ∀ s lo hi a x, QC s lo hi a x → (lo ≤ a ∧ a < hi) ∧ (sk s a).1 < 19 ∧ ∀ s', Kp (fun b => lo ≤ b ∧ b < hi) s s' → QC s' lo hi a x
theorem Lis.go {γ : Type} {QC : St → Nat → Nat → Nat → γ → Prop} (hQ : QOk QC) {s s' : St} {lo L b c : Nat} {cs : List γ} {f : Nat → Nat} (h : Lis QC s lo L b c cs f) (hs : ∀ x, lo ≤ x → x < sn s → same s s' x) (hn : sn s ≤ sn s') : Lis QC s' lo L b c cs f := by
  obtain ⟨h1, h2, h3, h4, h5, h6⟩ := h
  refine ⟨h1.go (hs L h4.1 h4.2) (hs b h5.1 h5.2), h2.go h1.2.1 (hs L h4.1 h4.2).2.2.2 (hs b h5.1 h5.2).1 (hs b h5.1 h5.2).2.2.2, fun i x hx => ?_, ⟨h4.1, by omega⟩, ⟨h5.1, by omega⟩, h6⟩
  obtain ⟨lo1, hi1, g1, g2, g3⟩ := h3 i x hx
  exact ⟨lo1, hi1, ⟨g1.1, by omega⟩, (hQ _ _ _ _ _ g2).2.2 s' (fun y hy => hs y (by omega) (by omega)), g3⟩
theorem e_lis_add {γ : Type} {QC : St → Nat → Nat → Nat → γ → Prop} (hQ : QOk QC) {s : St} {lo L b c x lo1 : Nat} {cs : List γ} {f : Nat → Nat} {y : γ} (h : Lis QC s lo L b c cs f) (hv : Vd s) (hk : cs.length ≤ 200) (hx : QC s lo1 (sn s) x y) (hlo : lo ≤ lo1) (hA : L < lo1 ∧ b < lo1) (hm1 : sn s < smx s) (hm2 : ss s + 400 ≤ sms s) : ∃ s' b' c' f', F_J2_add s L (some x) = some (iI 1, s') ∧ Lis QC s' lo L b' c' (cs ++ [y]) f' ∧ (∀ z, z < sn s → z ≠ L → z ≠ b → same s s' z) ∧ Tk s s' 1 400 ∧ Vd s' := by
  obtain ⟨h1, h2, h3, h4, h5, h6⟩ := h
  have hxq := hQ _ _ _ _ _ hx
  obtain ⟨s', b', c', e, L', T', O', K', tk', v', hb', -, -, -⟩ := e_J2_add h1 h2 hv h6 hk (fun i hi => by
    obtain ⟨lo2, hi2, -, g2, -⟩ := h3 i _ (List.getElem?_eq_getElem hi)
    exact (hQ _ _ _ _ _ g2).2.1) (fun i hi => by
    obtain ⟨lo2, hi2, g1, g2, -⟩ := h3 i _ (List.getElem?_eq_getElem hi)
    have := (hQ _ _ _ _ _ g2).1
    omega) hxq.2.1 hm1 hm2
  have hn := tk'.1
  have o2 : ∀ z, z < sn s → z ≠ L → z ≠ b → same s s' z := fun z h1 h2 h3 => O' z h1 (fun y => y.elim h2 h3)
  have lb' : b' < sn s' := v'.lt (by rw [L'.2.2.1]; show (104 : Nat) ≠ 99; decide)
  have hlen : (cs ++ [y]).length = cs.length + 1 := List.length_append
  refine ⟨s', b', c', ladd f cs.length x, e, ⟨by rw [hlen]; exact L', by rw [hlen]; exact T', fun i z hz => ?_, ⟨h4.1, by omega⟩, ⟨?_, lb'⟩, ?_⟩, o2, tk', v'⟩
  · unfold ladd
    by_cases ei : i < cs.length
    · rw [List.getElem?_append_left ei] at hz
      obtain ⟨lo2, hi2, g1, g2, g3, g4⟩ := h3 i z hz
      rw [if_neg (by omega)]
      refine ⟨lo2, hi2, ⟨g1.1, by omega⟩, (hQ _ _ _ _ _ g2).2.2 s' (fun y hy => o2 y (by omega) (fun w => g3 (by rw [← w]; exact hy)) (fun w => g4 (by rw [← w]; exact hy))), g3, ?_⟩
      rcases hb' with w | w
      · rw [w]; exact g4
      · omega
    · rw [List.getElem?_append_right (by omega)] at hz
      have h0 : i - cs.length = 0 := by
        by_cases h0 : i - cs.length = 0
        · exact h0
        · rw [List.getElem?_eq_none (by simp; omega)] at hz
          cases hz
      rw [h0] at hz
      cases hz
      rw [if_pos (by omega)]
      refine ⟨lo1, sn s, ⟨hlo, hn⟩, hxq.2.2 s' (fun w hw => o2 w hw.2 (by omega) (by omega)), by omega, ?_⟩
      rcases hb' with w | w <;> omega
  · rcases hb' with w | w <;> omega
  · rcases hb' with w | w <;> omega

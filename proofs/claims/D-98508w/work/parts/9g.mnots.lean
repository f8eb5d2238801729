set_option maxRecDepth 100000
/-! ===== the model's reader: not, and, or ===== -/
def parB : Nat → Bool
  | 0 => false
  | m + 1 => !parB m
def nots (m : Nat) : List (Int × Nat) := List.replicate m (28, 0)
theorem nots_su {m : Nat} : nots (m + 1) = (28, 0) :: nots m := rfl
theorem ClT.denies {ord : Bool} {a : Nat} : ∀ (m : Nat) (C : CD) (b : Nat) (t : DT), ClT ord C a b t → ClT ord (stC (nots m) (C, b)).1 a (stC (nots m) (C, b)).2 (if parB m then dNot t else t)
  | 0, _, _, _, h => h
  | m + 1, C, b, t, h => by
    have h1 : ClT ord (upC C b (28, 0)) a (b + 1) (dNot t) := ClT.no (h.ext fun k k1 k2 => upC_n (by omega)) upC_s
    have h2 := ClT.denies m _ _ _ h1
    have e : stC (nots (m + 1)) (C, b) = stC (nots m) (upC C b (28, 0), b + 1) := by
      rw [nots_su, stC_cons, if_neg (by decide)]
    rw [e]
    have e2 : (if parB (m + 1) = true then dNot t else t) = (if parB m = true then dNot (dNot t) else dNot t) := by
      show (if (!parB m) = true then dNot t else t) = _
      cases parB m
      · rfl
      · exact dNot2.symm
    rw [e2]
    exact h2
theorem top_nots {m : Nat} {P : List (Int × Nat)} (h : topB P < 4) : topB (nots m ++ P) < 4 := by
  cases m with
  | zero => exact h
  | succ m => show bindZ 28 < 4; decide
theorem inn_nots {m : Nat} {P : List (Int × Nat)} : innZ (nots m ++ P) = innZ P := innZ_q fun y hy => by
  have := List.eq_of_mem_replicate hy
  rw [this]
  decide
theorem nots_mem {m : Nat} {y : Int × Nat} (h : y ∈ nots m) : y = (28, 0) := List.eq_of_mem_replicate h
theorem e_not {ord : Bool} {T : Nat → Int} {n d : Nat} {next : Nat → Nat → Nat → PR DT} (hN : ∀ t p l P C nc, RdM ord t T n p P C nc l d → l ≤ 50 → topB P < 4 → innZ P ≠ 32 → ¬ tokIs T n p (strB 18) → TstO ord 4 (iI 1) t 0 T n p P C nc d (next d p l)) {P : List (Int × Nat)} (hP : topB P < 4) (hi : innZ P ≠ 32) {t0 : St} {p0 : Nat} {C : CD} {nc : Nat} : ∀ (k m p l : Nat) (t : St) (j0 : Nat), n - p < k → RdM ord t T n p (nots m ++ P) C nc l d → l ≤ 50 → Go (iI 1) t0 0 t 0 j0 → j0 ≤ 2 * (p - p0) → Fm Sex t0 t → p0 ≤ p → TstO ord 3 (iI 1) t0 0 T n p0 P C nc d (notL T n next k (parB m) d p l) := by
  intro k
  induction k with
  | zero => intro m p l t j0 hk; omega
  | succ k ih =>
    intro m p l t j0 hk h hl g0 hj0 f0 hp0
    have hpn := h.p
    have hnx := nxt_r (T := T) hpn.1
    rw [notL]
    by_cases a : tokIs T n p (strB 18)
    · have hlt := tok_lt hpn.1 wd_18.1.1 a
      have hn' := hnx.2.2 hlt
      have hb := h.2.2.2
      obtain ⟨t1, e1, g1, p1, w1, f1⟩ := h.push (op := 28) (by omega) (by omega)
      obtain ⟨t2, e2, g2, f2⟩ := g_next g1
      have r2 : RdM ord t2 T n (nxt T n p) (nots (m + 1) ++ P) C nc l d := ⟨g2, p1.mu (f2.le fun _ _ => Or.inl), w1.ex (f2.le fun _ _ z => Or.inl (Or.inl z)), by
        show nc + cnt ((28, 0) :: (nots m ++ P)) ≤ _ ∧ ((28, 0) :: (nots m ++ P)).length ≤ _
        rw [cnt_cons]
        simp only [List.length_cons]
        refine ⟨?_, by omega⟩
        split <;> omega⟩
      have g3 : Go (iI 1) t 0 t2 0 1 := Go.one h.1.2.1 (by omega) (by
        rw [tu0]
        unfold F_X5_readPlain
        rw [K_14836, e_X5_isWord h.1.1 wd_18 hs_18, bnd_s, if_neg (show ¬ iI (bZ (tokIs T n p (strB 18))) = 0 by rw [bZ_t a]; decide), show (28 : Int32) = iI 28 from rfl, show F_X5_push t (iI 28) (0 : Int32) = some ((), t1) from e1, bnd_s, e2, bnd_s]
        rfl)
      rw [if_pos a]
      exact ih (m + 1) (nxt T n p) l t2 (j0 + 1) (by omega) r2 hl (g0.tr g3) (by omega) ((f0.tr (f1.le fun _ _ => Or.inr)).tr (f2.le fun _ _ z => Or.inl (Or.inl z))) (by omega)
    · rw [if_neg a]
      have h1 := hN t p l (nots m ++ P) C nc h hl (top_nots hP) (by rw [inn_nots]; exact hi) a
      generalize next d p l = R at h1 ⊢
      rcases R with q | ⟨f, p', l'⟩
      · exact BadI.after h1 g0 f0 (by omega) hj0
      · obtain ⟨t1, j, q, C1, nc1, g1, hj, r1, f1, hq, hC, hn, hcl, hp', hl'⟩ := h1
        refine ⟨t1, j0 + j, q ++ nots m, C1, nc1, g0.tr g1, by omega, by rw [List.append_assoc]; exact r1, f0.tr f1, fun y hy => ?_, hC, hn, ?_, by omega, hl'⟩
        · rcases List.mem_append.mp hy with hy | hy
          · have := hq y hy
            exact ⟨by omega, this.2⟩
          · rw [nots_mem hy]
            exact ⟨by decide, by decide, fun z => absurd z (by decide)⟩
        · rw [stC_app]
          generalize stC q (C1, nc1) = S at hcl ⊢
          obtain ⟨C2, nc2⟩ := S
          exact ClT.denies m C2 nc2 f hcl
theorem e_plain {ord : Bool} {T : Nat → Int} {n d : Nat} {next : Nat → Nat → Nat → PR DT} (hN : ∀ t p l P C nc, RdM ord t T n p P C nc l d → l ≤ 50 → topB P < 4 → innZ P ≠ 32 → ¬ tokIs T n p (strB 18) → TstO ord 4 (iI 1) t 0 T n p P C nc d (next d p l)) : ∀ t p l P C nc, RdM ord t T n p P C nc l d → l ≤ 50 → topB P < 4 → innZ P ≠ 32 → TstO ord 3 (iI 1) t 0 T n p P C nc d (plainT T n next d p l) := fun t p l P C nc h hl hP hi =>
  e_not hN hP hi 401 0 p l t 0 (by have := h.p; omega) h hl Go.rf (by omega) Fm.rf (Nat.le_refl _)
/-! and, or -/
theorem m_sevL {ord : Bool} {T : Nat → Int} {n d i : Nat} {op lev : Int} {all : Bool} (ho : (i = 24 ∧ op = 29 ∧ lev = 2) ∨ (i = 25 ∧ op = 30 ∧ lev = 1)) (ha : op = if all then 29 else 30) {next : Nat → Nat → Nat → PR DT} (hN : ∀ t p l P C nc, RdM ord t T n p P C nc l d → l ≤ 50 → topB P < lev + 1 → innZ P ≠ 32 → TstO ord (lev + 1) (iI 1) t 0 T n p P C nc d (next d p l)) {t0 : St} {p0 : Nat} {P : List (Int × Nat)} {C : CD} {nc : Nat} (hP : topB P < lev) (hi : innZ P ≠ 32) : ∀ (k : Nat) (ts : List DT) (p l : Nat), n - p < k → TstI ord lev (iI 1) t0 0 T n p0 P C nc d (dSev all ts) p l → TstO ord lev (iI 1) t0 0 T n p0 P C nc d (sevL T n i all next k ts d p l) := by
  intro k
  induction k with
  | zero => intro ts p l hk; omega
  | succ k ih =>
    intro ts p l hk h
    rw [sevL]
    by_cases a : tokIs T n p (strB i)
    · obtain ⟨t1, j, q, C1, nc1, g1, hj, r1, f1, hq, hC, hn, hcl, hp, hl⟩ := h
      obtain ⟨t2, g2, r2, f2⟩ := bt_op (x1 := iI 1) r1 ho a hP fun y hy => (hq y hy).1
      have hnx := nxt_r (T := T) hp.2
      have hlt : p < n := by
        rcases ho with ⟨rfl, -, -⟩ | ⟨rfl, -, -⟩
        · exact tok_lt hp.2 wd_24.1.1 a
        · exact tok_lt hp.2 wd_25.1.1 a
      have hn' := hnx.2.2 hlt
      have hlo := stC_lo (lo := nc) q C1 nc1 (by omega) (fun y hy z => (hq y hy).2.2 z)
      have hS2 : (stC q (C1, nc1)).2 ≤ 400 := by
        have := r2.2.1.2.2.2.2.1
        omega
      generalize stC q (C1, nc1) = S at hcl hlo r2 hS2
      obtain ⟨C2, nc2⟩ := S
      have hcl : ClT ord C2 nc nc2 (dSev all ts) := hcl
      have hlo : nc1 ≤ nc2 ∧ ∀ k, k < nc → C2 k = C1 k := hlo
      have r2 : RdM ord t2 T n (nxt T n p) ((op, nc2) :: P) (upC C2 nc2 (op, 0)) (nc2 + 1) l d := r2
      have ih2 := hN t2 (nxt T n p) l ((op, nc2) :: P) _ _ r2 hl (by show bindZ op < lev + 1; rcases ho with ⟨-, rfl, rfl⟩ | ⟨-, rfl, rfl⟩ <;> decide) (by show (if 31 ≤ op then op else innZ P) ≠ 32; rw [if_neg (by omega)]; exact hi)
      rw [if_pos a]
      generalize next d (nxt T n p) l = R at ih2 ⊢
      rcases R with q2 | ⟨f2', p2, l2⟩
      · exact BadI.after ih2 (g1.tr g2) (f1.tr f2) (by omega) (by omega)
      · obtain ⟨t3, j3, q3, C3, nc3, g3, hj3, r3, f3, hq3, hC3, hn3, hcl3, hp3, hl3⟩ := ih2
        have hlo3 := stC_lo (lo := nc2 + 1) q3 C3 nc3 (by omega) (fun y hy z => (hq3 y hy).2.2 z)
        have hS4 : (stC q3 (C3, nc3)).2 ≤ 400 := by
          have e := cnt_settled (P := (op, nc2) :: P) (C := C3) (nc := nc3) (q := q3) fun y hy => (hq3 y hy).2.1
          have := r3.2.1.2.2.2.2.1
          omega
        refine ih (ts ++ [f2']) p2 l2 (by omega) ⟨t3, j + 1 + j3, q3 ++ [(op, nc2)], C3, nc3, (g1.tr g2).tr g3, by omega, ?_, (f1.tr f2).tr f3, fun y hy => ?_, fun k hk => ?_, by omega, ?_, by omega, hl3⟩
        · rw [List.append_assoc]
          exact r3
        · rcases List.mem_append.mp hy with hy | hy
          · have := hq3 y hy
            exact ⟨by omega, this.2.1, fun z => by have := this.2.2 z; omega⟩
          · rw [List.mem_singleton.mp hy]
            refine ⟨?_, ?_, fun _ => ?_⟩
            · show lev ≤ bindZ op
              rcases ho with ⟨-, rfl, rfl⟩ | ⟨-, rfl, rfl⟩ <;> decide
            · show 20 ≤ op ∧ op ≤ 30
              omega
            · show nc ≤ nc2
              omega
        · rw [hC3 k (by omega), upC_n (by omega), hlo.2 k hk, hC k hk]
        · rw [stC_app]
          generalize stC q3 (C3, nc3) = S at hcl3 hlo3 hS4 ⊢
          obtain ⟨C4, nc4⟩ := S
          have hcl3 : ClT ord C4 (nc2 + 1) nc4 f2' := hcl3
          have hlo3 : nc3 ≤ nc4 ∧ ∀ k, k < nc2 + 1 → C4 k = C3 k := hlo3
          have hS4 : nc4 ≤ 400 := hS4
          have e4 : stC [(op, nc2)] (C4, nc4) = (upC C4 nc2 ((C4 nc2).1, (nc4 : Int)), nc4) := by
            rw [stC_cons, if_pos (show op = 29 ∨ op = 30 by omega)]
            rfl
          have e5 : (C4 nc2).1 = op := by
            rw [hlo3.2 nc2 (by omega), hC3 nc2 (by omega), upC_s]
          rw [e4, e5]
          refine ClT.sev (m := nc2) (hcl.ext fun k k1 k2 => ?_) (hcl3.ext fun k k1 k2 => upC_n (by omega)) ?_ hS4
          · show upC C4 nc2 (op, (nc4 : Int)) k = _
            rw [upC_n (by omega), hlo3.2 k (by omega), hC3 k (by omega), upC_n (by omega)]
          · show upC C4 nc2 (op, (nc4 : Int)) nc2 = _
            rw [upC_s, ha]
    · rw [if_neg a]
      exact h
theorem TstI.le {ord : Bool} {lev lev' : Int} {x1 : Int32} {t : St} {u : Int} {T : Nat → Int} {n p : Nat} {P : List (Int × Nat)} {C : CD} {nc d : Nat} {f : DT} {p' l' : Nat} (h : TstI ord lev x1 t u T n p P C nc d f p' l') (hl : lev' ≤ lev) : TstI ord lev' x1 t u T n p P C nc d f p' l' := by
  obtain ⟨t1, j, q, C1, nc1, g1, hj, r1, f1, hq, r⟩ := h
  exact ⟨t1, j, q, C1, nc1, g1, hj, r1, f1, fun y hy => ⟨by have := (hq y hy).1; omega, (hq y hy).2⟩, r⟩
theorem m_sevT {ord : Bool} {T : Nat → Int} {n d i : Nat} {op lev : Int} {all : Bool} (ho : (i = 24 ∧ op = 29 ∧ lev = 2) ∨ (i = 25 ∧ op = 30 ∧ lev = 1)) (ha : op = if all then 29 else 30) {next : Nat → Nat → Nat → PR DT} (hN : ∀ t p l P C nc, RdM ord t T n p P C nc l d → l ≤ 50 → topB P < lev + 1 → innZ P ≠ 32 → TstO ord (lev + 1) (iI 1) t 0 T n p P C nc d (next d p l)) : ∀ t p l P C nc, RdM ord t T n p P C nc l d → l ≤ 50 → topB P < lev → innZ P ≠ 32 → TstO ord lev (iI 1) t 0 T n p P C nc d (sevT T n i all next d p l) := by
  intro t p l P C nc h hl hP hi
  have h1 := hN t p l P C nc h hl (by omega) hi
  unfold sevT
  generalize next d p l = R at h1 ⊢
  rcases R with q | ⟨f, p', l'⟩
  · exact h1
  · have h2 : TstI ord lev (iI 1) t 0 T n p P C nc d f p' l' := TstI.le h1 (by omega)
    show TstO ord lev (iI 1) t 0 T n p P C nc d (@ite _ (tokIs T n p' (strB i)) (Classical.propDecidable _) (sevL T n i all next 401 [f] d p' l') (.inr (f, p', l')))
    by_cases a : tokIs T n p' (strB i)
    · rw [if_pos a]
      exact m_sevL ho ha hN hP hi 401 [f] p' l' (by have := h.p; omega) (by rw [dSev_1]; exact h2)
    · rw [if_neg a]
      exact h2
/-! how they end -/
theorem sevL_end {T : Nat → Int} {n i : Nat} {all : Bool} {next : Nat → Nat → Nat → PR DT} {R : Nat → Prop} (hR : ∀ d p l f p' l', next d p l = .inr (f, p', l') → R p') : ∀ (k : Nat) (ts : List DT) (d p l : Nat) (g : DT) (p' l' : Nat), R p → sevL T n i all next k ts d p l = .inr (g, p', l') → R p' ∧ ¬ tokIs T n p' (strB i) := by
  intro k
  induction k with
  | zero => intro ts d p l g p' l' _ e; rw [sevL] at e; cases e
  | succ k ih =>
    intro ts d p l g p' l' h e
    rw [sevL] at e
    by_cases a : tokIs T n p (strB i)
    · rw [if_pos a] at e
      cases en : next d (nxt T n p) l with
      | inl q => rw [en] at e; cases e
      | inr x =>
        obtain ⟨f2, p2, l2⟩ := x
        rw [en] at e
        exact ih _ _ _ _ _ _ _ (hR _ _ _ _ _ _ en) e
    · rw [if_neg a] at e
      cases e
      exact ⟨h, a⟩
theorem sevT_end {T : Nat → Int} {n i : Nat} {all : Bool} {next : Nat → Nat → Nat → PR DT} {R : Nat → Prop} (hR : ∀ d p l f p' l', next d p l = .inr (f, p', l') → R p') {d p l : Nat} {g : DT} {p' l' : Nat} (e : sevT T n i all next d p l = .inr (g, p', l')) : R p' ∧ ¬ tokIs T n p' (strB i) := by
  unfold sevT at e
  cases en : next d p l with
  | inl q => rw [en] at e; cases e
  | inr x =>
    obtain ⟨f2, p2, l2⟩ := x
    rw [en] at e
    have e : @ite _ (tokIs T n p2 (strB i)) (Classical.propDecidable _) (sevL T n i all next 401 [f2] d p2 l2) (.inr (f2, p2, l2)) = Sum.inr (g, p', l') := e
    by_cases a : tokIs T n p2 (strB i)
    · rw [if_pos a] at e
      exact sevL_end hR _ _ _ _ _ _ _ _ (hR _ _ _ _ _ _ en) e
    · rw [if_neg a] at e
      cases e
      exact ⟨hR _ _ _ _ _ _ en, a⟩
theorem test_end {T : Nat → Int} {n : Nat} {V : VP} : ∀ (k d p l : Nat) (f : DT) (p' l' : Nat), testP T n V k d p l = .inr (f, p', l') → ¬ tokIs T n p' (strB 24) ∧ ¬ tokIs T n p' (strB 25)
  | 0, d, p, l, f, p', l', e => by rw [testP] at e; cases e
  | k + 1, d, p, l, f, p', l', e => by
    rw [testP] at e
    unfold testS at e
    have := sevT_end (R := fun q => True ∧ ¬ tokIs T n q (strB 24)) (fun d p l f p' l' e => sevT_end (R := fun _ => True) (fun _ _ _ _ _ _ _ => trivial) e) e
    exact ⟨this.1.2, this.2⟩
theorem e_test {ord : Bool} {T : Nat → Int} {n : Nat} : ∀ (k d : Nat), 9 ≤ k + d → d ≤ 8 → ∀ t p l P C nc, RdM ord t T n p P C nc l d → l ≤ 50 → topB P < 1 → innZ P ≠ 32 → TstO ord 1 (iI 1) t 0 T n p P C nc d (testP T n (valV ord T n) k d p l) := by
  intro k
  induction k with
  | zero => intro d h1 h2; omega
  | succ k ih =>
    intro d h1 h2 t p l P C nc h hl hP hi
    rw [testP]
    unfold testS
    refine m_sevT (op := 30) (lev := 1) (Or.inr ⟨rfl, rfl, rfl⟩) rfl ?_ t p l P C nc h hl hP hi
    intro t p l P C nc h hl hP hi
    refine m_sevT (op := 29) (lev := 2) (Or.inl ⟨rfl, rfl, rfl⟩) rfl ?_ t p l P C nc h hl hP hi
    intro t p l P C nc h hl hP hi
    refine e_plain ?_ t p l P C nc h hl (by omega) hi
    intro t p l P C nc h hl hP hi h18
    exact e_pos (fun hd t p l P C nc h hl hP hi => ih (d + 1) (by omega) (by omega) t p l P C nc h hl hP hi) (fun p l f p' l' e => test_end k (d + 1) p l f p' l' e) h2 t p l P C nc h hl hP hi h18

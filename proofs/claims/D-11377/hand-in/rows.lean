section
/-- no cluster holds a thing, no bit is set -/
def fq_E (a1 a2 a4 : Nat → Int32) : Prop := (∀ c, c < 17 → a1 c = -1 ∧ a2 c = -1) ∧ ∀ j, j < 68 → a4 j = 0
/-- h alone lies in the clusters, and its cluster alone in the summary -/
def fq_H (h : Nat) (a1 a2 a4 : Nat → Int32) : Prop := (∀ c, c < 16 → c ≠ h / 16 → a1 c = -1 ∧ a2 c = -1) ∧ (a1 (h / 16) = nI (h % 16) ∧ a2 (h / 16) = nI (h % 16)) ∧ (a1 16 = nI (h / 16) ∧ a2 16 = nI (h / 16)) ∧ ∀ j, j < 68 → a4 j = 0
/-- the picture of a queue with one member (l = h) or two (l < h) -/
def fq_P (l h : Nat) (a1 a2 a4 : Nat → Int32) : Prop := l ≤ h ∧ h < 256 ∧ (l = h → fq_E a1 a2 a4) ∧ (l < h → fq_H h a1 a2 a4)
/-- how many members -/
def fq_n (l h : Nat) : Int32 := if l = h then 1 else 2
theorem fq_T {n : Nat} (h : n < 256) : (nI n).toInt = (n : Int) := nI_toInt (by omega)
theorem fq_m1 : (-1 : Int32).toInt = -1 := by decide
theorem fq_ne {n : Nat} (h : n < 256) : ¬ (-1 : Int32) = nI n := by
  intro e
  have t := fq_T h
  rw [← e, fq_m1] at t
  omega
theorem fq_b8 : ∀ n, n < 17 → (nI n).toInt8.toInt32 = nI n := by decide +kernel
theorem fq_hi {j : Nat} (h : j < 256) : nI j >>> ((4 : Int32) &&& 31) = nI (j / 16) := pk_shrN (by omega) ((4 : Int32) &&& 31) 4 (by decide)
theorem fq_lo {j : Nat} (h : j < 256) : nI j &&& 15 = nI (j % 16) := pk_andN (m := 15) (by omega) 4 (by decide)
theorem fq_ix {c x : Nat} (hx : x < 16) : nI c * 4 + (nI x >>> ((2 : Int32) &&& 31)) = nI (c * 4 + x / 4) := by
  have e : nI x >>> ((2 : Int32) &&& 31) = nI (x / 4) := pk_shrN (by omega) ((2 : Int32) &&& 31) 2 (by decide)
  rw [e, show (4 : Int32) = nI 4 from rfl, pk_mul, nI_add]
theorem fq_cat (h : Nat) : 16 * nI (h / 16) + nI (h % 16) = nI h := by
  rw [show (16 : Int32) = nI 16 from rfl, pk_mul, nI_add, show 16 * (h / 16) + h % 16 = h by omega]
theorem fq_mid {z : Int32} {l h : Nat} (hh : h < 256) (hl : l ≤ h) (g : nI l ≤ z) (g2 : z ≤ nI h) : ∃ j, z = nI j ∧ l ≤ j ∧ j ≤ h := by
  rcases pk_ix z (n := 256) (by omega) with e | e | ⟨j, hj, rfl⟩
  · exact absurd (Int32.lt_of_le_of_lt g e) (nI_pos (by omega))
  · exact absurd (Int32.le_trans e g2) (nI_ge (by omega) (by omega))
  · exact ⟨j, rfl, (nI_leI (by omega) (by omega)).mp g, (nI_leI (by omega) (by omega)).mp g2⟩
theorem fq_mk {r : Nat} {a1 a2 a4 : Nat → Int32} (hr : r < 256) (E : fq_E a1 a2 a4) : fq_H r (upd (upd a1 16 (nI (r / 16))) (r / 16) (nI (r % 16))) (upd (upd a2 16 (nI (r / 16))) (r / 16) (nI (r % 16))) a4 := by
  refine ⟨fun c hc hn => ⟨?_, ?_⟩, ⟨pk_us, pk_us⟩, ⟨?_, ?_⟩, E.2⟩
  · rw [pk_un hn, pk_un (by omega)]
    exact (E.1 c (by omega)).1
  · rw [pk_un hn, pk_un (by omega)]
    exact (E.1 c (by omega)).2
  · rw [pk_un (by omega), pk_us]
  · rw [pk_un (by omega), pk_us]
/-! ### the constructor -/
theorem fq_init {post : St2 → Prop} {mc ms : Nat} {f0 f1 f2 : Int32} (hc : 4 ≤ mc) (hs : 119 ≤ ms) (H : ∀ a1 a2 a3 a4, fq_E a1 a2 a4 → post (-1, -1, f2, a1, a2, a3, a4)) : wpX_init post mc ms (f0, f1, f2) := by
  unfold wpX_init
  refine ⟨by omega, by omega, by omega, by omega, by omega, by omega, by omega, by omega, ?_⟩
  exact pk_loop (fun n i s => wX_init_48 post mc ms 4 119 (-1) (-1) f2 n (nI i) s.1 s.2 (fun _ => 0) (fun _ => 0)) (fun i s => ∀ c, c < i → s.1 c = -1 ∧ s.2 c = -1) 17 0 ((fun _ => 0), (fun _ => 0)) (by omega) (fun c hc => absurd hc (by omega))
    (fun n s h => pk_lt 16 17 (fun _ => H s.1 s.2 _ _ ⟨h, fun _ _ => rfl⟩) (fun z => absurd z (by omega)))
    (fun n i s hi h hw => pk_lt 16 i (fun z => absurd z (by omega)) (fun _ => ⟨pk_in i 17 hi, nm_e ⟨pk_in i 17 hi, nm_e (nm_r (nI_1 i) (hw (upd s.1 (nI i).toNatClampNeg (-1), upd s.2 (nI i).toNatClampNeg (-1)) (by
      intro c hc
      rw [nI_clamp (show i < 2 ^ 31 by omega)]
      by_cases e : c = i
      · rw [e]
        exact ⟨pk_us, pk_us⟩
      · dsimp only
        rw [pk_un e, pk_un e]
        exact h c (by omega))))⟩⟩))
/-! ### members -/
section
variable {post : Int32 → Prop} {f0 f1 f2 : Int32} {a1 a2 a3 a4 : Nat → Int32} {l h : Nat}
theorem fq_inC {c x : Nat} (hc : c < 16) (hx : x < 16) (hb : ∀ j, j < 68 → a4 j = 0) (H1 : a1 c = nI x → post 1) (H0 : ¬ a1 c = nI x → post 0) : wpX_inCluster post (f0, f1, f2, a1, a2, a3, a4) (nI c) (nI x) := by
  unfold wpX_inCluster
  dsimp only
  rw [fq_ix hx, nI_clamp (show c < 2 ^ 31 by omega), nI_clamp (show c * 4 + x / 4 < 2 ^ 31 by omega), hb _ (by omega), Int32.zero_shiftRight, Int32.zero_and]
  exact ⟨pk_in c 17 (by omega), br_c H1 (fun g => ⟨pk_in (c * 4 + x / 4) 68 (by omega), br_t rfl (H0 g)⟩)⟩
theorem fq_mem0 (E : fq_E a1 a2 a4) (z : Int32) (hf : 0 ≤ z → ¬ z = f0) (H0 : post 0) : wpX_member post (f0, f1, f2, a1, a2, a3, a4) z := by
  unfold wpX_member
  rcases pk_ix z (n := 256) (by omega) with g | g | ⟨j, hj, rfl⟩
  · exact br_t g H0
  · exact br_c (fun _ => H0) (fun _ => br_t g H0)
  · refine br_f (nI_pos (by omega)) (br_f (nI_ge (b := 256) hj (by decide)) (br_f (hf (nI_pos' (by omega))) ?_))
    rw [fq_hi hj, fq_lo hj]
    refine fq_inC (by omega) (by omega) E.2 (fun g => ?_) (fun _ => br_t rfl H0)
    rw [(E.1 (j / 16) (by omega)).1] at g
    exact absurd g (fq_ne (by omega))
theorem fq_mem (P : fq_P l h a1 a2 a4) (z : Int32) (H1 : z = nI l ∨ z = nI h → post 1) (H0 : z ≠ nI l → z ≠ nI h → post 0) : wpX_member post (nI l, f1, f2, a1, a2, a3, a4) z := by
  obtain ⟨hl, hh, hE, hH⟩ := P
  unfold wpX_member
  rcases pk_ix z (n := 256) (by omega) with g | g | ⟨j, hj, rfl⟩
  · refine br_t g (H0 (fun e => ?_) (fun e => ?_))
    · rw [e] at g
      exact nI_pos (by omega) g
    · rw [e] at g
      exact nI_pos (by omega) g
  · have n1 : z ≠ nI l := by
      intro e
      rw [e] at g
      exact nI_ge (by omega) (by omega) g
    have n2 : z ≠ nI h := by
      intro e
      rw [e] at g
      exact nI_ge (by omega) (by omega) g
    exact br_c (fun _ => H0 n1 n2) (fun _ => br_t g (H0 n1 n2))
  · refine br_f (nI_pos (by omega)) (br_f (nI_ge (b := 256) hj (by decide)) (br_c (fun e => H1 (Or.inl e)) (fun e => ?_)))
    rw [fq_hi hj, fq_lo hj]
    by_cases e2 : l = h
    · have E := hE e2
      refine fq_inC (by omega) (by omega) E.2 (fun g => ?_) (fun _ => br_t rfl (H0 e (by rw [← e2]; exact e)))
      rw [(E.1 (j / 16) (by omega)).1] at g
      exact absurd g (fq_ne (by omega))
    · have Q := hH (by omega)
      refine fq_inC (by omega) (by omega) Q.2.2.2 (fun g => br_f (by decide) (H1 (Or.inr ?_))) (fun g => br_t rfl (H0 e (fun e3 => g ?_)))
      · by_cases e4 : j / 16 = h / 16
        · rw [e4, Q.2.1.1, nI_eq (by omega) (by omega)] at g
          rw [show j = h by omega]
        · rw [(Q.1 _ (by omega) e4).1] at g
          exact absurd g (fq_ne (by omega))
      · rw [(nI_eq (by omega) (by omega)).mp e3]
        exact Q.2.1.1
/-! ### after and before -/
theorem fq_aftHi {c x : Nat} (hc : c < 17) (h1 : ¬ a1 c ≤ nI x) (H : post (a1 c)) : wpX_afterIn post (f0, f1, f2, a1, a2, a3, a4) (nI c) (nI x) := by
  unfold wpX_afterIn
  dsimp only
  rw [nI_clamp (show c < 2 ^ 31 by omega)]
  exact ⟨pk_in c 17 hc, br_f h1 ⟨pk_in c 17 hc, H⟩⟩
theorem fq_aftNo {c x : Nat} (hc : c < 17) (h1 : a1 c ≤ nI x) (h2 : ¬ nI x < a2 c) (H : post (-1)) : wpX_afterIn post (f0, f1, f2, a1, a2, a3, a4) (nI c) (nI x) := by
  unfold wpX_afterIn
  dsimp only
  rw [nI_clamp (show c < 2 ^ 31 by omega)]
  exact ⟨pk_in c 17 hc, br_t h1 ⟨pk_in c 17 hc, br_f h2 H⟩⟩
theorem fq_m1le {n : Nat} (h : n < 256) : (-1 : Int32) ≤ nI n := by
  rw [Int32.le_iff_toInt_le, fq_T h, fq_m1]
  omega
theorem fq_m1lt {n : Nat} (h : n < 256) : ¬ nI n < (-1 : Int32) := by
  rw [Int32.lt_iff_toInt_lt, fq_T h, fq_m1]
  omega
theorem fq_after (P : fq_P l h a1 a2 a4) (z : Int32) (Hn : nI h ≤ z → post (-1)) (Hl : z < nI l → post (nI l)) (Hm : nI l ≤ z → z < nI h → post (nI h)) : wpX_after post (nI l, nI h, f2, a1, a2, a3, a4) z := by
  obtain ⟨hl, hh, hE, hH⟩ := P
  unfold wpX_after
  refine br_f (nI_pos (by omega)) (br_c (fun g => br_c (fun g2 => ?_) (fun g2 => Hl (Int32.not_le.mp g2))) (fun g => Hn (Int32.not_lt.mp g)))
  obtain ⟨j, rfl, h1, h2⟩ := fq_mid hh hl g2 (Int32.le_of_lt g)
  have h3 : j < h := (nI_ltI (by omega) (by omega)).mp g
  have Q := hH (by omega)
  have R := Hm g2 g
  refine nm_r (fq_hi (by omega)) ?_
  rw [fq_lo (by omega)]
  by_cases e : j / 16 = h / 16
  · rw [e]
    refine fq_aftHi (by omega) ?_ ?_
    · rw [Q.2.1.1]
      exact nI_ge (by omega) (by omega)
    · rw [Q.2.1.1]
      refine br_f (nI_pos (by omega)) ?_
      rw [fq_cat]
      exact R
  · have q := Q.1 (j / 16) (by omega) e
    refine fq_aftNo (by omega) ?_ ?_ (br_t (by decide) ?_)
    · rw [q.1]
      exact fq_m1le (by omega)
    · rw [q.2]
      exact fq_m1lt (by omega)
    · refine fq_aftHi (c := 16) (by omega) ?_ ?_
      · rw [Q.2.2.1.1]
        exact nI_ge (by omega) (by omega)
      · rw [Q.2.2.1.1, nI_clamp (show h / 16 < 2 ^ 31 by omega), Q.2.1.1, fq_cat]
        exact ⟨pk_in (h / 16) 17 (by omega), R⟩
theorem fq_befE {c : Nat} {x : Int32} (hc : c < 17) (h1 : a1 c < 0) (H : post (-1)) : wpX_beforeIn post (f0, f1, f2, a1, a2, a3, a4) (nI c) x := by
  unfold wpX_beforeIn
  dsimp only
  rw [nI_clamp (show c < 2 ^ 31 by omega)]
  exact ⟨pk_in c 17 hc, br_t h1 H⟩
theorem fq_befNo {c : Nat} {x : Int32} (hc : c < 17) (h1 : ¬ a1 c < 0) (h2 : ¬ a1 c < x) (H : post (-1)) : wpX_beforeIn post (f0, f1, f2, a1, a2, a3, a4) (nI c) x := by
  unfold wpX_beforeIn
  dsimp only
  rw [nI_clamp (show c < 2 ^ 31 by omega)]
  exact ⟨pk_in c 17 hc, br_f h1 ⟨pk_in c 17 hc, br_f h2 H⟩⟩
theorem fq_before (P : fq_P l h a1 a2 a4) (z : Int32) (Hn : z ≤ nI l → post (-1)) (Hm : nI l < z → z ≤ nI h → post (nI l)) (Hh : nI h < z → post (nI h)) : wpX_before post (nI l, nI h, f2, a1, a2, a3, a4) z := by
  obtain ⟨hl, hh, hE, hH⟩ := P
  unfold wpX_before
  refine br_f (nI_pos (by omega)) (br_c (fun g => br_c (fun g2 => ?_) (fun g2 => Hh (Int32.not_le.mp g2))) (fun g => Hn (Int32.not_lt.mp g)))
  obtain ⟨j, rfl, h1, h2⟩ := fq_mid hh hl (Int32.le_of_lt g) g2
  have h3 : l < j := (nI_ltI (by omega) (by omega)).mp g
  have Q := hH (by omega)
  have R := Hm g g2
  refine nm_r (fq_hi (by omega)) ?_
  rw [fq_lo (by omega)]
  have S : wpX_beforeIn (fun r_7 => (((0 ≤ r_7 → (vp_in r_7 17 ∧ (post ((16 * r_7) + (a2 r_7.toNatClampNeg))))) ∧ (¬ 0 ≤ r_7 → (post (nI l)))))) (nI l, nI h, f2, a1, a2, a3, a4) 16 (nI (j / 16)) := by
    refine fq_befNo (c := 16) (by omega) ?_ ?_ (br_f (by decide) R)
    · rw [Q.2.2.1.1]
      exact nI_pos (by omega)
    · rw [Q.2.2.1.1]
      exact nI_nlt (by omega) (by omega)
  by_cases e : j / 16 = h / 16
  · refine fq_befNo (by omega) ?_ ?_ (br_t (by decide) S)
    · rw [e, Q.2.1.1]
      exact nI_pos (by omega)
    · rw [e, Q.2.1.1]
      exact nI_nlt (by omega) (by omega)
  · refine fq_befE (by omega) ?_ (br_t (by decide) S)
    rw [(Q.1 (j / 16) (by omega) e).1]
    decide
/-! ### nearest -/
theorem fq_near (P : fq_P l h a1 a2 a4) (z : Int32) (Hh : nI h ≤ z → post (nI h)) (Hl : z < nI l → post (nI l)) (Hm : ∀ j, z = nI j → l ≤ j → j < h → (h - j < j - l → post (nI h)) ∧ (¬ h - j < j - l → post (nI l))) : wpX_nearest post (nI l, nI h, f2, a1, a2, a3, a4) z := by
  have hl := P.1
  have hh := P.2.1
  have hlh : nI l ≤ nI h := nI_le hl (by omega)
  unfold wpX_nearest
  refine fq_after P z (fun g => ?_) (fun g => ?_) (fun g g2 => ?_)
  · refine fq_mem P z (fun e => br_f (by decide) ?_) (fun e1 e2 => br_t rfl ?_)
    · have e' : z = nI h := by
        rcases e with e | e
        · rw [e] at g
          rw [e]
          exact Int32.le_antisymm hlh g
        · exact e
      have R := Hh g
      rw [← e'] at R
      exact br_t (by decide) (br_f (by decide) R)
    · refine fq_before P z (fun g' => ?_) (fun _ g' => ?_) (fun _ => br_t (by decide) (br_f (by decide) (Hh g)))
      · exact absurd (Int32.le_antisymm g' (Int32.le_trans hlh g)) e1
      · exact absurd (Int32.le_antisymm g' g) e2
  · have R := Hl g
    refine fq_mem P z (fun e => ?_) (fun e1 e2 => br_t rfl ?_)
    · rcases e with e | e
      · rw [e] at g
        exact absurd g Int32.lt_irrefl
      · rw [e] at g
        exact absurd (Int32.lt_of_lt_of_le g hlh) Int32.lt_irrefl
    · refine fq_before P z (fun _ => ?_) (fun g' _ => absurd (Int32.lt_trans g g') Int32.lt_irrefl) (fun g' => absurd (Int32.lt_of_le_of_lt hlh (Int32.lt_trans g' g)) Int32.lt_irrefl)
      exact br_f (nI_pos (by omega)) (br_f (by decide) (br_t (nI_pos' (by omega)) R))
  · obtain ⟨j, rfl, h1, h2⟩ := fq_mid hh hl g (Int32.le_of_lt g2)
    have h3 : j < h := (nI_ltI (by omega) (by omega)).mp g2
    have R := Hm j rfl h1 h3
    have S : wX_nearest_23 post (nI j) (nI h) (nI l) (nI l) (nI h) f2 a1 a2 a3 a4 := by
      refine br_f (nI_pos (by omega)) (br_t (nI_pos' (by omega)) ?_)
      rw [pk_sub (by omega), pk_sub h1]
      exact pk_lt (h - j) (j - l) R.1 (fun t => R.2 (by omega))
    refine fq_mem P (nI j) (fun e => br_f (by decide) ?_) (fun e1 e2 => br_t rfl ?_)
    · rcases e with e | e
      · rw [nI_eq (by omega) (by omega)] at e
        rw [e] at S ⊢
        exact S
      · rw [nI_eq (by omega) (by omega)] at e
        exact absurd e (by omega)
    · refine fq_before P (nI j) (fun g' => ?_) (fun _ _ => S) (fun g' => absurd (Int32.lt_trans g' g2) Int32.lt_irrefl)
      exact absurd (Int32.le_antisymm g' g) e1
end
end
section
/-! ### insert -/
section
variable {post : Int32 → St2 → Prop} {f0 f1 f2 : Int32} {a1 a2 a3 a4 : Nat → Int32}
theorem fq_into {post : St2 → Prop} {c x : Nat} (hc : c < 17) (hx : x < 17) (h1 : a1 c = -1) (H : post (f0, f1, f2, upd a1 c (nI x), upd a2 c (nI x), a3, a4)) : wpX_insertInto post (f0, f1, f2, a1, a2, a3, a4) (nI c) (nI x) := by
  unfold wpX_insertInto
  dsimp only
  rw [nI_clamp (show c < 2 ^ 31 by omega), h1, fq_b8 x hx]
  exact ⟨pk_in c 17 hc, br_f (by decide) ⟨pk_in c 17 hc, nm_e ⟨pk_in c 17 hc, nm_e H⟩⟩⟩
theorem fq_ins70 {r : Nat} (hr : r < 256) (E : fq_E a1 a2 a4) (H : ∀ a1' a2', fq_H r a1' a2' a4 → (nI r ≤ f1 → post 1 (f0, f1, f2, a1', a2', a3, a4)) ∧ (¬ nI r ≤ f1 → post 1 (f0, nI r, f2, a1', a2', a3, a4))) : wX_insert_70 post (nI r) f0 f1 f2 a1 a2 a3 a4 := by
  unfold wX_insert_70
  refine nm_r (fq_hi hr) ⟨pk_in (r / 16) 17 (by omega), br_f ?_ ?_⟩
  · rw [nI_clamp (show r / 16 < 2 ^ 31 by omega), (E.1 (r / 16) (by omega)).1]
    decide
  · refine fq_into (c := 16) (by omega) (by omega) (E.1 16 (by omega)).1 ?_
    unfold wX_insert_90
    dsimp only
    rw [fq_lo hr]
    refine fq_into (by omega) (by omega) ?_ (H _ _ (fq_mk hr E))
    rw [pk_un (by omega)]
    exact (E.1 (r / 16) (by omega)).1
theorem fq_ins1 (E : fq_E a1 a2 a4) (p : Int32) (H0 : p < 0 ∨ nI 256 ≤ p → post 0 (-1, -1, f2, a1, a2, a3, a4)) (H1 : ∀ j, j < 256 → p = nI j → post 1 (nI j, nI j, f2 + 1, a1, a2, a3, a4)) : wpX_insert post (-1, -1, f2, a1, a2, a3, a4) p := by
  unfold wpX_insert
  rcases pk_ix p (n := 256) (by omega) with g | g | ⟨j, hj, rfl⟩
  · exact br_t g (H0 (Or.inl g))
  · exact br_c (fun g0 => H0 (Or.inl g0)) (fun _ => br_t g (H0 (Or.inr g)))
  · refine br_f (nI_pos (by omega)) (br_f (nI_ge (b := 256) hj (by decide)) (fq_mem0 E _ (fun _ e => fq_ne hj e.symm) ?_))
    exact br_t rfl (nm_e (br_f (by decide) (H1 j hj rfl)))
theorem fq_ins2 {k : Nat} (hk : k < 256) (E : fq_E a1 a2 a4) (p : Int32) (H0 : p < 0 ∨ nI 256 ≤ p ∨ p = nI k → post 0 (nI k, nI k, f2, a1, a2, a3, a4))
    (H1 : ∀ j, j < 256 → j ≠ k → p = nI j → ∀ l h a1' a2', l = min j k → h = max j k → fq_P l h a1' a2' a4 → post 1 (nI l, nI h, f2 + 1, a1', a2', a3, a4)) : wpX_insert post (nI k, nI k, f2, a1, a2, a3, a4) p := by
  unfold wpX_insert
  rcases pk_ix p (n := 256) (by omega) with g | g | ⟨j, hj, rfl⟩
  · exact br_t g (H0 (Or.inl g))
  · exact br_c (fun g0 => H0 (Or.inl g0)) (fun _ => br_t g (H0 (Or.inr (Or.inl g))))
  · refine br_f (nI_pos (by omega)) (br_f (nI_ge (b := 256) hj (by decide)) ?_)
    have P0 : fq_P k k a1 a2 a4 := ⟨Nat.le_refl k, hk, fun _ => E, fun z => absurd z (by omega)⟩
    refine fq_mem P0 (nI j) (fun e => br_f (by decide) (H0 (Or.inr (Or.inr ?_)))) (fun e _ => br_t rfl (nm_e (br_t (nI_pos' (by omega)) ?_)))
    · rcases e with e | e
      · exact e
      · exact e
    · have hjk : j ≠ k := fun t => e (by rw [t])
      refine pk_le k j (fun t => ?_) (fun t => ?_)
      · refine fq_ins70 hj E (fun a1' a2' q => br_f (nI_ge (by omega) (by omega)) ?_)
        exact H1 j hj hjk rfl k j a1' a2' (by omega) (by omega) ⟨t, hj, fun z => absurd z (by omega), fun _ => q⟩
      · refine fq_ins70 hk E (fun a1' a2' q => br_t (Int32.le_refl _) ?_)
        exact H1 j hj hjk rfl j k a1' a2' (by omega) (by omega) ⟨by omega, hk, fun z => absurd z (by omega), fun _ => q⟩
end
/-! ### countBetween and select -/
/-- one where x lies between a and b -/
def fq_c1 (a b x : Int32) : Int32 := if x < a then 0 else if b < x then 0 else 1
theorem fq_c1a {a b x : Int32} (h : x < a) : fq_c1 a b x = 0 := if_pos h
theorem fq_c1b {a b x : Int32} (h : b < x) : fq_c1 a b x = 0 := by
  unfold fq_c1
  by_cases g : x < a
  · rw [if_pos g]
  · rw [if_neg g, if_pos h]
theorem fq_c1c {a b x : Int32} (h : a ≤ x) (h2 : x ≤ b) : fq_c1 a b x = 1 := by
  unfold fq_c1
  rw [if_neg (Int32.not_lt.mpr h), if_neg (Int32.not_lt.mpr h2)]
/-- how many members lie between a and b -/
def fq_c (a b : Int32) (l h : Nat) : Int32 := fq_c1 a b (nI l) + (if nI h = nI l then 0 else fq_c1 a b (nI h))
theorem fq_pred {a : Int32} (h : 0 < a) : (a - 1).toInt = a.toInt - 1 := by
  rw [Int32.lt_iff_toInt_lt] at h
  have h0 : (0 : Int32).toInt = 0 := by decide
  have h1 : (1 : Int32).toInt = 1 := by decide
  have h2 := Int32.toInt_lt a
  rw [Int32.toInt_sub, h1]
  exact Int.bmod_eq_of_le_mul_two (by omega) (by omega)
section
variable {post : Int32 → Prop} {f0 f1 f2 : Int32} {a1 a2 a3 a4 : Nat → Int32} {l h : Nat}
theorem fq_from (P : fq_P l h a1 a2 a4) (a : Int32) (Ha : a ≤ nI l → post (nI l)) (Hb : nI l < a → a ≤ nI h → post (nI h)) (Hc : nI h < a → post (-1)) : wpX_from post (nI l, nI h, f2, a1, a2, a3, a4) a := by
  have hl := P.1
  have hh := P.2.1
  have tl := fq_T (show l < 256 by omega)
  have th := fq_T hh
  unfold wpX_from
  refine br_c (fun g => ?_) (fun g => Ha (Int32.le_trans (Int32.not_lt.mp g) (nI_pos' (by omega))))
  have tp := fq_pred g
  refine fq_after P (a - 1) (fun g1 => Hc ?_) (fun g1 => Ha ?_) (fun g1 g2 => Hb ?_ ?_)
  · rw [Int32.le_iff_toInt_le] at g1
    rw [Int32.lt_iff_toInt_lt]
    omega
  · rw [Int32.lt_iff_toInt_lt] at g1
    rw [Int32.le_iff_toInt_le]
    omega
  · rw [Int32.le_iff_toInt_le] at g1
    rw [Int32.lt_iff_toInt_lt]
    omega
  · rw [Int32.lt_iff_toInt_lt] at g2
    rw [Int32.le_iff_toInt_le]
    omega
theorem fq_cN {b x3 x5 : Int32} {n : Nat} (H : post x3) : wX_countBetween_12 post b f0 f1 f2 a1 a2 a3 a4 (n + 1) x3 (-1) x5 := br_c (fun _ => H) (fun _ => br_t (by decide) H)
theorem fq_cH (P : fq_P l h a1 a2 a4) {b x3 x5 : Int32} {n : Nat} (h5 : ¬ 256 ≤ x5) (Hb : b < nI h → post x3) (Hc : nI h ≤ b → post (x3 + 1)) : wX_countBetween_12 post b (nI l) (nI h) f2 a1 a2 a3 a4 (n + 1 + 1) x3 (nI h) x5 := by
  have hl := P.1
  have hh := P.2.1
  refine br_f h5 (br_f (nI_pos (by omega)) (br_c Hb (fun g => nm_e ?_)))
  exact fq_after P (nI h) (fun _ => nm_e (fq_cN (Hc (Int32.not_lt.mp g)))) (fun z => absurd z (nI_nlt hl (by omega))) (fun _ z => absurd z Int32.lt_irrefl)
theorem fq_cL (P : fq_P l h a1 a2 a4) (hlh : l < h) {b : Int32} {n : Nat} (Ha : b < nI l → post 0) (Hb : nI l ≤ b → b < nI h → post (0 + 1)) (Hc : nI h ≤ b → post (0 + 1 + 1)) : wX_countBetween_12 post b (nI l) (nI h) f2 a1 a2 a3 a4 (n + 1 + 1 + 1) 0 (nI l) 0 := by
  have hh := P.2.1
  refine br_f (by decide) (br_f (nI_pos (by omega)) (br_c Ha (fun g => nm_e ?_)))
  exact fq_after P (nI l) (fun z => absurd z (nI_ge hlh (by omega))) (fun z => absurd z Int32.lt_irrefl) (fun _ _ => nm_e (fq_cH P (by decide) (Hb (Int32.not_lt.mp g)) Hc))
theorem fq_cnt (P : fq_P l h a1 a2 a4) (a b : Int32) (H : post (fq_c a b l h)) : wpX_countBetween post (nI l, nI h, f2, a1, a2, a3, a4) a b := by
  have hl := P.1
  have hh := P.2.1
  have hlh : nI l ≤ nI h := nI_le hl (by omega)
  have fin_ : ∀ v : Int32, fq_c a b l h = v → post v := fun v e => by
    rw [← e]
    exact H
  unfold wpX_countBetween
  unfold fq_c at fin_
  refine fq_from P a (fun g => ⟨0 + 1 + 1 + 1, ?_⟩) (fun g g2 => ⟨0 + 1 + 1, ?_⟩) (fun g => ⟨0 + 1, ?_⟩)
  · by_cases e : l = h
    · subst e
      refine fq_cH P (by decide) (fun t => fin_ _ ?_) (fun t => fin_ _ ?_)
      · rw [if_pos rfl, fq_c1b t]
        rfl
      · rw [if_pos rfl, fq_c1c g t]
        rfl
    · have ne : ¬ nI h = nI l := by
        rw [nI_eq (by omega) (by omega)]
        omega
      rw [if_neg ne] at fin_
      refine fq_cL P (by omega) (fun t => fin_ _ ?_) (fun t t2 => fin_ _ ?_) (fun t => fin_ _ ?_)
      · rw [fq_c1b t, fq_c1b (Int32.lt_of_lt_of_le t hlh)]
        rfl
      · rw [fq_c1c g t, fq_c1b t2]
        rfl
      · rw [fq_c1c g (Int32.le_trans hlh t), fq_c1c (Int32.le_trans g hlh) t]
        rfl
  · have ne : ¬ nI h = nI l := by
      intro e
      rw [e] at g2
      exact Int32.lt_irrefl (Int32.lt_of_lt_of_le g g2)
    rw [if_neg ne, fq_c1a g] at fin_
    refine fq_cH P (by decide) (fun t => fin_ _ ?_) (fun t => fin_ _ ?_)
    · rw [fq_c1b t]
      rfl
    · rw [fq_c1c g2 t]
  · refine fq_cN (fin_ _ ?_)
    rw [fq_c1a (Int32.lt_of_le_of_lt hlh g), fq_c1a g]
    by_cases e : nI h = nI l
    · rw [if_pos e]
      rfl
    · rw [if_neg e]
      rfl
theorem fq_sel (P : fq_P l h a1 a2 a4) (H : post (nI h)) : wpX_select post (nI l, nI h, f2, a1, a2, a3, a4) (fq_n l h - 1) := by
  have hl := P.1
  have hh := P.2.1
  unfold wpX_select fq_n
  by_cases e : l = h
  · subst e
    rw [if_pos rfl]
    exact br_t (by decide) ⟨0 + 1, br_t (by decide) H⟩
  · rw [if_neg e]
    refine br_t (by decide) ⟨0 + 1 + 1, br_f (by decide) (br_f (nI_pos (by omega)) ?_)⟩
    exact fq_after P (nI l) (fun z => absurd z (nI_ge (by omega) (by omega))) (fun z => absurd z Int32.lt_irrefl) (fun _ _ => nm_e (br_t (by decide) H))
/-! ### the empty queue -/
theorem fq_aft0 {z : Int32} (H : post (-1)) : wpX_after post (-1, f1, f2, a1, a2, a3, a4) z := br_t (by decide) H
theorem fq_bef0 {z : Int32} (H : post (-1)) : wpX_before post (-1, f1, f2, a1, a2, a3, a4) z := br_t (by decide) H
theorem fq_near0 (E : fq_E a1 a2 a4) {z : Int32} (H : post (-1)) : wpX_nearest post (-1, f1, f2, a1, a2, a3, a4) z := by
  unfold wpX_nearest
  refine fq_aft0 (fq_mem0 E z (fun g e => ?_) (br_t rfl (fq_bef0 (br_t (by decide) (br_f (by decide) H)))))
  rw [e] at g
  exact absurd g (by decide)
theorem fq_cnt0 {a b : Int32} (H : post 0) : wpX_countBetween post (-1, f1, f2, a1, a2, a3, a4) a b := by
  unfold wpX_countBetween wpX_from
  exact br_c (fun _ => fq_aft0 ⟨0 + 1, fq_cN H⟩) (fun _ => ⟨0 + 1, fq_cN H⟩)
theorem fq_sel0 (H : post (-1)) : wpX_select post (-1, f1, f2, a1, a2, a3, a4) (0 - 1) := by
  unfold wpX_select
  exact br_f (by decide) ⟨0 + 1, br_t (by decide) H⟩
end
end
section
/-! ### what the law expects: after, before, nearest -/
def fq_s16 (l h : Nat) (z v : Int32) : Prop := (nI h ≤ z → v = -1) ∧ (z < nI l → v = nI l) ∧ (nI l ≤ z → z < nI h → v = nI h)
def fq_s17 (l h : Nat) (z v : Int32) : Prop := (z ≤ nI l → v = -1) ∧ (nI l < z → z ≤ nI h → v = nI l) ∧ (nI h < z → v = nI h)
def fq_s26 (l h : Nat) (z v : Int32) : Prop := (nI h ≤ z → v = nI h) ∧ (z < nI l → v = nI l) ∧ (∀ j, z = nI j → l ≤ j → j < h → (h - j < j - l → v = nI h) ∧ (¬ h - j < j - l → v = nI l))
theorem fq_long (x y : Int32) : (x.toInt64 - y.toInt64).toInt = x.toInt - y.toInt := by
  have h1 := Int32.toInt_lt x
  have h2 := Int32.le_toInt x
  have h3 := Int32.toInt_lt y
  have h4 := Int32.le_toInt y
  rw [Int64.toInt_sub, Int32.toInt_toInt64, Int32.toInt_toInt64]
  exact Int.bmod_eq_of_le_mul_two (by omega) (by omega)
theorem fq_neg {x : Int64} (h : -4294967296 ≤ x.toInt) (h2 : x.toInt ≤ 4294967296) : (-x).toInt = -x.toInt := by
  rw [Int64.toInt_neg]
  exact Int.bmod_eq_of_le_mul_two (by omega) (by omega)
section
variable {post : Int32 → St0 → Prop} {mc ms kc ks : Nat} {z a b x16 x17 x26 : Int32} {a1 a2 a3 a4 : Nat → Int32} {l h : Nat}
theorem fq_afterV {post : Int32 → Prop} {f2 v : Int32} (P : fq_P l h a1 a2 a4) (s : fq_s16 l h z v) (H : post v) : wpX_after post (nI l, nI h, f2, a1, a2, a3, a4) z :=
  fq_after P z (fun g => by rw [← s.1 g]; exact H) (fun g => by rw [← s.2.1 g]; exact H) (fun g g2 => by rw [← s.2.2 g g2]; exact H)
theorem fq_beforeV {post : Int32 → Prop} {f2 v : Int32} (P : fq_P l h a1 a2 a4) (s : fq_s17 l h z v) (H : post v) : wpX_before post (nI l, nI h, f2, a1, a2, a3, a4) z :=
  fq_before P z (fun g => by rw [← s.1 g]; exact H) (fun g g2 => by rw [← s.2.1 g g2]; exact H) (fun g => by rw [← s.2.2 g]; exact H)
theorem fq_nearV {post : Int32 → Prop} {f2 v : Int32} (P : fq_P l h a1 a2 a4) (s : fq_s26 l h z v) (H : post v) : wpX_nearest post (nI l, nI h, f2, a1, a2, a3, a4) z :=
  fq_near P z (fun g => by rw [← s.1 g]; exact H) (fun g => by rw [← s.2.1 g]; exact H) (fun j e g g2 => ⟨fun t => by rw [← (s.2.2 j e g g2).1 t]; exact H, fun t => by rw [← (s.2.2 j e g g2).2 t]; exact H⟩)
theorem fq_402 (P : fq_P l h a1 a2 a4) (s16 : fq_s16 l h z x16) (s17 : fq_s17 l h z x17) (s26 : fq_s26 l h z x26) (hp : post 1 ()) : wL_lawOf_402 post mc ms z a b (nI l) (nI h) x16 x17 x26 (fq_c a b l h) (fq_n l h) kc ks (nI l) (nI h) (fq_n l h) a1 a2 a3 a4 := by
  unfold wL_lawOf_402
  refine br_t rfl (br_t rfl (br_t rfl ?_))
  refine fq_afterV P s16 (br_t rfl ?_)
  refine fq_beforeV P s17 (br_t rfl ?_)
  refine fq_nearV P s26 (br_t rfl ?_)
  refine fq_cnt P a b (br_t rfl ?_)
  exact fq_sel P (br_t rfl hp)
theorem fq_379 (P : fq_P l h a1 a2 a4) (s16 : fq_s16 l h z x16) (s17 : fq_s17 l h z x17) (s26 : fq_s26 l h z x26) (hp : post 1 ()) {c : Int32} (hc : c = fq_c a b l h) : wL_lawOf_379 post mc ms z a b (nI l) (nI h) 1 (nI l) (nI h) x16 x17 x26 c kc ks (nI l) (nI h) (fq_n l h) a1 a2 a3 a4 := by
  have hl := P.1
  have hh := P.2.1
  have R : wL_lawOf_402 post mc ms z a b (nI l) (nI h) x16 x17 x26 c (fq_n l h) kc ks (nI l) (nI h) (fq_n l h) a1 a2 a3 a4 := by
    rw [hc]
    exact fq_402 P s16 s17 s26 hp
  unfold wL_lawOf_379
  refine br_f (by decide) (pk_eq l h (fun e => ?_) (fun e => ?_))
  · have n1 : fq_n l h = 1 := if_pos e
    rw [n1] at R ⊢
    exact R
  · have n1 : fq_n l h = 2 := if_neg e
    rw [n1] at R ⊢
    exact R
theorem fq_353 (P : fq_P l h a1 a2 a4) (s16 : fq_s16 l h z x16) (s17 : fq_s17 l h z x17) (s26 : fq_s26 l h z x26) (hp : post 1 ()) {c : Int32} (hc : c = fq_c1 a b (nI l)) : wL_lawOf_353 post mc ms z a b (nI l) (nI h) 1 (nI l) (nI h) x16 x17 x26 c kc ks (nI l) (nI h) (fq_n l h) a1 a2 a3 a4 := by
  unfold wL_lawOf_353 wL_lawOf_377 wL_lawOf_378
  have R : ∀ d, d = (if nI h = nI l then 0 else fq_c1 a b (nI h)) → wL_lawOf_379 post mc ms z a b (nI l) (nI h) 1 (nI l) (nI h) x16 x17 x26 (c + d) kc ks (nI l) (nI h) (fq_n l h) a1 a2 a3 a4 := fun d hd => fq_379 P s16 s17 s26 hp (by rw [hc, hd]; rfl)
  refine br_c (fun e => R 0 (by rw [if_pos e])) (fun e => ?_)
  rw [if_neg e] at R
  exact br_c (fun g => R 0 (fq_c1a g).symm) (fun g => br_c (fun g2 => R 0 (fq_c1b g2).symm) (fun g2 => R 1 (fq_c1c (Int32.not_lt.mp g) (Int32.not_lt.mp g2)).symm))
theorem fq_324 (P : fq_P l h a1 a2 a4) (s16 : fq_s16 l h z x16) (s17 : fq_s17 l h z x17) (s26 : fq_s26 l h z x26) (hp : post 1 ()) : wL_lawOf_324 post mc ms z a b (nI l) (nI h) 1 (nI l) (nI h) x16 x17 x26 kc ks (nI l) (nI h) (fq_n l h) a1 a2 a3 a4 := by
  unfold wL_lawOf_324 wL_lawOf_352
  have R : ∀ d, d = fq_c1 a b (nI l) → wL_lawOf_353 post mc ms z a b (nI l) (nI h) 1 (nI l) (nI h) x16 x17 x26 d kc ks (nI l) (nI h) (fq_n l h) a1 a2 a3 a4 := fun d hd => fq_353 P s16 s17 s26 hp hd
  exact br_f (by decide) (br_c (fun g => R 0 (fq_c1a g).symm) (fun g => br_c (fun g2 => R 0 (fq_c1b g2).symm) (fun g2 => R 1 (fq_c1c (Int32.not_lt.mp g) (Int32.not_lt.mp g2)).symm)))
/-- d is the distance to l, u that to h -/
theorem fq_298 (P : fq_P l h a1 a2 a4) (s16 : fq_s16 l h z x16) (s17 : fq_s17 l h z x17) (hp : post 1 ()) {d u : Int64} (hd : (0 ≤ z.toInt - l → d.toInt = z.toInt - l) ∧ (z.toInt - l < 0 → d.toInt = -(z.toInt - l))) (hu : (0 ≤ h - z.toInt → u.toInt = h - z.toInt) ∧ (h - z.toInt < 0 → u.toInt = -(h - z.toInt))) : wL_lawOf_298 post mc ms z a b (nI l) (nI h) 1 (nI l) (nI h) x16 x17 d u kc ks (nI l) (nI h) (fq_n l h) a1 a2 a3 a4 := by
  have hl := P.1
  have hh := P.2.1
  have tl := fq_T (show l < 256 by omega)
  have th := fq_T hh
  unfold wL_lawOf_298
  refine br_f (by decide) (br_c (fun g => fq_324 P s16 s17 ?_ hp) (fun g => fq_324 P s16 s17 ?_ hp))
  · rw [Int64.lt_iff_toInt_lt] at g
    refine ⟨fun _ => rfl, fun t => ?_, fun j e g1 g2 => ⟨fun _ => rfl, fun t => ?_⟩⟩
    · rw [Int32.lt_iff_toInt_lt] at t
      exact absurd g (by omega)
    · have tj := fq_T (show j < 256 by omega)
      rw [← e] at tj
      exact absurd g (by omega)
  · rw [Int64.lt_iff_toInt_lt] at g
    refine ⟨fun t => ?_, fun _ => rfl, fun j e g1 g2 => ⟨fun t => ?_, fun _ => rfl⟩⟩
    · rw [Int32.le_iff_toInt_le] at t
      rw [show l = h by omega]
    · have tj := fq_T (show j < 256 by omega)
      rw [← e] at tj
      exact absurd g (by omega)
theorem fq_248 (P : fq_P l h a1 a2 a4) (s16 : fq_s16 l h z x16) (s17 : fq_s17 l h z x17) (hp : post 1 ()) : wL_lawOf_248 post mc ms z a b (nI l) (nI h) 1 (nI l) (nI h) x16 x17 kc ks (nI l) (nI h) (fq_n l h) a1 a2 a3 a4 := by
  have hl := P.1
  have hh := P.2.1
  have tl := fq_T (show l < 256 by omega)
  have th := fq_T hh
  have z1 := Int32.toInt_lt z
  have z2 := Int32.le_toInt z
  have zz : (0 : Int64).toInt = 0 := by decide
  unfold wL_lawOf_248
  intro d hd u hu
  have td := fq_long z (nI l)
  have tu := fq_long (nI h) z
  rw [← hd, tl] at td
  rw [← hu, th] at tu
  have nd := fq_neg (x := d) (by omega) (by omega)
  have nu := fq_neg (x := u) (by omega) (by omega)
  have U : ∀ d', ((0 ≤ z.toInt - l → d'.toInt = z.toInt - l) ∧ (z.toInt - l < 0 → d'.toInt = -(z.toInt - l))) → wL_lawOf_281 post mc ms z a b (nI l) (nI h) 1 (nI l) (nI h) x16 x17 u d' kc ks (nI l) (nI h) (fq_n l h) a1 a2 a3 a4 := by
    intro d' hd'
    unfold wL_lawOf_281
    refine br_c (fun g => fq_298 P s16 s17 hp hd' ?_) (fun g => fq_298 P s16 s17 hp hd' ?_)
    · rw [Int64.le_iff_toInt_le, zz] at g
      omega
    · rw [Int64.le_iff_toInt_le, zz] at g
      omega
  refine br_c (fun g => U d ?_) (fun g => U (-d) ?_)
  · rw [Int64.le_iff_toInt_le, zz] at g
    omega
  · rw [Int64.le_iff_toInt_le, zz] at g
    omega
theorem fq_218 (P : fq_P l h a1 a2 a4) (s16 : fq_s16 l h z x16) (hp : post 1 ()) : wL_lawOf_218 post mc ms z a b (nI l) (nI h) 1 (nI l) (nI h) x16 kc ks (nI l) (nI h) (fq_n l h) a1 a2 a3 a4 := by
  have hlh : nI l ≤ nI h := nI_le P.1 (by have := P.2.1; omega)
  unfold wL_lawOf_218 wL_lawOf_231
  refine br_f (by decide) (br_c (fun g => br_c (fun g2 => fq_248 P s16 ?_ hp) (fun g2 => fq_248 P s16 ?_ hp)) (fun g => fq_248 P s16 ?_ hp))
  · exact ⟨fun t => absurd (Int32.lt_of_lt_of_le g t) Int32.lt_irrefl, fun _ _ => rfl, fun t => absurd (Int32.lt_of_lt_of_le t g2) Int32.lt_irrefl⟩
  · exact ⟨fun t => absurd (Int32.lt_of_lt_of_le g t) Int32.lt_irrefl, fun _ t => absurd t g2, fun _ => rfl⟩
  · exact ⟨fun _ => rfl, fun t => absurd t g, fun t => absurd (Int32.lt_of_le_of_lt hlh t) g⟩
theorem fq_162 (P : fq_P l h a1 a2 a4) (hp : post 1 ()) : wL_lawOf_162 post mc ms z a b (nI l) (nI h) 1 kc ks (nI l) (nI h) (fq_n l h) a1 a2 a3 a4 := by
  have hlh : nI l ≤ nI h := nI_le P.1 (by have := P.2.1; omega)
  unfold wL_lawOf_162
  refine br_f (by decide) ?_
  unfold wL_lawOf_175
  refine br_f (by decide) ?_
  unfold wL_lawOf_188 wL_lawOf_201
  refine br_f (by decide) (br_c (fun g => br_c (fun g2 => fq_218 P ?_ hp) (fun g2 => fq_218 P ?_ hp)) (fun g => fq_218 P ?_ hp))
  · exact ⟨fun t => absurd (Int32.lt_of_lt_of_le g t) Int32.lt_irrefl, fun t => absurd (Int32.lt_of_lt_of_le t g2) Int32.lt_irrefl, fun _ _ => rfl⟩
  · exact ⟨fun t => absurd (Int32.lt_of_lt_of_le g t) Int32.lt_irrefl, fun _ => rfl, fun t => absurd t g2⟩
  · exact ⟨fun _ => rfl, fun t => absurd (Int32.lt_of_lt_of_le t hlh) g, fun _ t => absurd t g⟩
/-- the two candidates are nI i and nI j, in any order -/
theorem fq_113 {x6 x7 : Int32} (h67 : ¬ x6 = 0 ∨ ¬ x7 = 0) {i j : Nat} (hl : l = min i j) (hh : h = max i j) (P : fq_P l h a1 a2 a4) (hp : post 1 ()) : wL_lawOf_113 post mc ms z a b x6 x7 (nI i) (nI j) kc ks (nI l) (nI h) (fq_n l h) a1 a2 a3 a4 := by
  have h1 := P.1
  have h2 := P.2.1
  have R : wL_lawOf_145 post mc ms z a b x6 x7 (nI l) (nI h) kc ks (nI l) (nI h) (fq_n l h) a1 a2 a3 a4 := by
    unfold wL_lawOf_145 wL_lawOf_157
    refine br_c (fun g => br_f ?_ (fq_162 P hp)) (fun _ => fq_162 P hp)
    rcases h67 with t | t
    · exact absurd g t
    · exact t
  unfold wL_lawOf_113 wL_lawOf_129
  refine pk_le j i (fun t => pk_le j i (fun _ => ?_) (fun t2 => absurd t (by omega))) (fun t => pk_le j i (fun t2 => absurd t2 (by omega)) (fun _ => ?_))
  · rw [show j = l by omega, show i = h by omega]
    exact R
  · rw [show i = l by omega, show j = h by omega]
    exact R
/-! ### the law on the empty queue -/
theorem fq_402e (E : fq_E a1 a2 a4) (hp : post 1 ()) : wL_lawOf_402 post mc ms z a b (-1) (-1) (-1) (-1) (-1) 0 0 kc ks (-1) (-1) 0 a1 a2 a3 a4 := by
  unfold wL_lawOf_402
  refine br_t rfl (br_t rfl (br_t rfl ?_))
  refine fq_aft0 (br_t rfl ?_)
  refine fq_bef0 (br_t rfl ?_)
  refine fq_near0 E (br_t rfl ?_)
  refine fq_cnt0 (br_t rfl ?_)
  exact fq_sel0 (br_t rfl hp)
theorem fq_162e {p q : Int32} (E : fq_E a1 a2 a4) (hp : post 1 ()) : wL_lawOf_162 post mc ms z a b p q 0 kc ks (-1) (-1) 0 a1 a2 a3 a4 := by
  unfold wL_lawOf_162
  refine br_t rfl ?_
  unfold wL_lawOf_175
  refine br_t rfl ?_
  unfold wL_lawOf_188 wL_lawOf_201
  refine br_t rfl ?_
  unfold wL_lawOf_218 wL_lawOf_231
  refine br_t rfl ?_
  unfold wL_lawOf_248
  intro d _ u _
  have R : ∀ d' u', wL_lawOf_298 post mc ms z a b p q 0 (-1) (-1) (-1) (-1) d' u' kc ks (-1) (-1) 0 a1 a2 a3 a4 := by
    intro d' u'
    unfold wL_lawOf_298
    refine br_t rfl ?_
    unfold wL_lawOf_324
    refine br_t rfl ?_
    unfold wL_lawOf_379
    exact br_t rfl (fq_402e E hp)
  unfold wL_lawOf_281
  exact br_c (fun _ => br_c (fun _ => R _ _) (fun _ => R _ _)) (fun _ => br_c (fun _ => R _ _) (fun _ => R _ _))
theorem fq_101e {x y : Int32} (E : fq_E a1 a2 a4) (hp : post 1 ()) : wL_lawOf_101 post mc ms x y z a b 0 0 y kc ks (-1) (-1) 0 a1 a2 a3 a4 := by
  have R : ∀ p q, wL_lawOf_145 post mc ms z a b 0 0 p q kc ks (-1) (-1) 0 a1 a2 a3 a4 := by
    intro p q
    unfold wL_lawOf_145
    exact br_t rfl (br_t rfl (fq_162e E hp))
  unfold wL_lawOf_101
  refine br_t rfl ?_
  unfold wL_lawOf_113 wL_lawOf_129
  exact br_c (fun _ => br_c (fun _ => R _ _) (fun _ => R _ _)) (fun _ => br_c (fun _ => R _ _) (fun _ => R _ _))
/-! ### the two inserts -/
theorem fq_one {k : Nat} (hk : k < 256) (E : fq_E a1 a2 a4) : fq_P k k a1 a2 a4 := ⟨Nat.le_refl k, hk, fun _ => E, fun t => absurd t (by omega)⟩
theorem fq_n1 (k : Nat) : (0 : Int32) + 1 = fq_n k k := by
  unfold fq_n
  rw [if_pos rfl]
  rfl
/-- neither lies in the span -/
theorem fq_65n {x y : Int32} (hx : x < 0 ∨ nI 256 ≤ x) (hy : y < 0 ∨ nI 256 ≤ y) (E : fq_E a1 a2 a4) (hp : post 1 ()) : wL_lawOf_65 post mc ms x y z a b 0 0 0 kc ks (-1) (-1) 0 a1 a2 a3 a4 := by
  unfold wL_lawOf_65
  refine fq_ins1 E x (fun _ => br_t rfl ?_) (fun j hj e => ?_)
  · refine fq_ins1 E y (fun _ => br_t rfl (br_t rfl (fq_101e E hp))) (fun j hj e => ?_)
    rw [e] at hy
    exact absurd hy (fun t => t.elim (nI_pos (by omega)) (nI_ge hj (by omega)))
  · rw [e] at hx
    exact absurd hx (fun t => t.elim (nI_pos (by omega)) (nI_ge hj (by omega)))
/-- x alone -/
theorem fq_65x {i : Nat} {y : Int32} (hi : i < 256) (hy : y < 0 ∨ nI 256 ≤ y) (E : fq_E a1 a2 a4) (hp : post 1 ()) : wL_lawOf_65 post mc ms (nI i) y z a b 1 0 0 kc ks (-1) (-1) 0 a1 a2 a3 a4 := by
  unfold wL_lawOf_65
  refine fq_ins1 E (nI i) (fun t => ?_) (fun j hj e => br_t rfl ?_)
  · exact absurd t (fun t => t.elim (nI_pos (by omega)) (nI_ge hi (by omega)))
  · have e' : i = j := (nI_eq (by omega) (by omega)).mp e
    subst e'
    refine fq_ins2 hi E y (fun _ => br_t rfl (br_f (by decide) ?_)) (fun j hj _ e => ?_)
    · unfold wL_lawOf_101
      refine br_t rfl ?_
      rw [fq_n1 i]
      exact fq_113 (Or.inl (by decide)) (by omega) (by omega) (fq_one hi E) hp
    · rw [e] at hy
      exact absurd hy (fun t => t.elim (nI_pos (by omega)) (nI_ge hj (by omega)))
/-- y alone -/
theorem fq_65y {j : Nat} {x : Int32} (hj : j < 256) (hx : x < 0 ∨ nI 256 ≤ x) (E : fq_E a1 a2 a4) (hp : post 1 ()) : wL_lawOf_65 post mc ms x (nI j) z a b 0 1 1 kc ks (-1) (-1) 0 a1 a2 a3 a4 := by
  unfold wL_lawOf_65
  refine fq_ins1 E x (fun _ => br_t rfl ?_) (fun i hi e => ?_)
  · refine fq_ins1 E (nI j) (fun t => ?_) (fun i hi e => br_t rfl (br_t rfl ?_))
    · exact absurd t (fun t => t.elim (nI_pos (by omega)) (nI_ge hj (by omega)))
    · have e' : j = i := (nI_eq (by omega) (by omega)).mp e
      subst e'
      unfold wL_lawOf_101
      refine br_f (by decide) ?_
      rw [fq_n1 j]
      exact fq_113 (Or.inr (by decide)) (by omega) (by omega) (fq_one hj E) hp
  · rw [e] at hx
    exact absurd hx (fun t => t.elim (nI_pos (by omega)) (nI_ge hi (by omega)))
/-- both: t says whether they differ -/
theorem fq_65b {i j : Nat} {t : Int32} (hi : i < 256) (hj : j < 256) (ht : t = if i = j then 0 else 1) (E : fq_E a1 a2 a4) (hp : post 1 ()) : wL_lawOf_65 post mc ms (nI i) (nI j) z a b 1 1 t kc ks (-1) (-1) 0 a1 a2 a3 a4 := by
  unfold wL_lawOf_65
  refine fq_ins1 E (nI i) (fun t => ?_) (fun i' hi' e => br_t rfl ?_)
  · exact absurd t (fun t => t.elim (nI_pos (by omega)) (nI_ge hi (by omega)))
  · have e' : i = i' := (nI_eq (by omega) (by omega)).mp e
    subst e'
    refine fq_ins2 hi E (nI j) (fun g => ?_) (fun j' hj' hn e l h a1' a2' hl hh P => ?_)
    · have ej : j = i := by
        rcases g with g | g | g
        · exact absurd g (nI_pos (by omega))
        · exact absurd g (nI_ge hj (by omega))
        · exact (nI_eq (by omega) (by omega)).mp g
      subst ej
      rw [if_pos rfl] at ht
      refine br_t ht.symm (br_f (by decide) ?_)
      unfold wL_lawOf_101
      refine br_f (by decide) ?_
      rw [fq_n1 j]
      exact fq_113 (Or.inl (by decide)) (by omega) (by omega) (fq_one hi E) hp
    · have ej : j = j' := (nI_eq (by omega) (by omega)).mp e
      subst ej
      rw [if_neg (fun t => hn t.symm)] at ht
      refine br_t ht.symm (br_f (by decide) ?_)
      unfold wL_lawOf_101
      refine br_f (by decide) ?_
      have n2 : (0 : Int32) + 1 + 1 = fq_n l h := by
        unfold fq_n
        rw [if_neg (by omega)]
        rfl
      rw [n2]
      exact fq_113 (Or.inl (by decide)) (by omega) (by omega) P hp
/-! ### the law -/
theorem fq_255 {x : Int32} (h : 255 < x) : nI 256 ≤ x := by
  have h1 : (255 : Int32).toInt = 255 := by decide
  have h2 : (nI 256).toInt = 256 := by decide
  rw [Int32.lt_iff_toInt_lt] at h
  rw [Int32.le_iff_toInt_le]
  omega
theorem fq_in {x : Int32} (h0 : ¬ x < 0) (h : ¬ 255 < x) : ∃ j : Nat, j < 256 ∧ x = nI j := by
  rcases pk_ix x (n := 256) (by omega) with g | g | g
  · exact absurd g h0
  · have h1 : (255 : Int32) < nI 256 := by decide
    exact absurd (Int32.lt_of_lt_of_le h1 g) h
  · exact g
theorem fq_25x {x y : Int32} (hx : x < 0 ∨ nI 256 ≤ x) (E : fq_E a1 a2 a4) (hp : post 1 ()) : wL_lawOf_25 post mc ms x y z a b 0 kc ks (-1) (-1) 0 a1 a2 a3 a4 := by
  have R : (y < 0 ∨ nI 256 ≤ y) → wL_lawOf_42 post mc ms x y z a b 0 kc ks (-1) (-1) 0 a1 a2 a3 a4 := fun hy => by
    unfold wL_lawOf_42 wL_lawOf_43 wL_lawOf_64
    exact br_t rfl (fq_65n hx hy E hp)
  unfold wL_lawOf_25
  refine br_c (fun g => R (Or.inl g)) (fun g0 => br_c (fun g => R (Or.inr (fq_255 g))) (fun g => ?_))
  obtain ⟨j, hj, rfl⟩ := fq_in g0 g
  unfold wL_lawOf_43 wL_lawOf_60
  exact br_f (by decide) (br_t rfl (fq_65y hj hx E hp))
theorem fq_25i {i : Nat} {y : Int32} (hi : i < 256) (E : fq_E a1 a2 a4) (hp : post 1 ()) : wL_lawOf_25 post mc ms (nI i) y z a b 1 kc ks (-1) (-1) 0 a1 a2 a3 a4 := by
  have R : (y < 0 ∨ nI 256 ≤ y) → wL_lawOf_42 post mc ms (nI i) y z a b 1 kc ks (-1) (-1) 0 a1 a2 a3 a4 := fun hy => by
    unfold wL_lawOf_42 wL_lawOf_43 wL_lawOf_64
    exact br_t rfl (fq_65x hi hy E hp)
  unfold wL_lawOf_25
  refine br_c (fun g => R (Or.inl g)) (fun g0 => br_c (fun g => R (Or.inr (fq_255 g))) (fun g => ?_))
  obtain ⟨j, hj, rfl⟩ := fq_in g0 g
  unfold wL_lawOf_43 wL_lawOf_60 wL_lawOf_64
  refine br_f (by decide) (br_f (by decide) (pk_eq i j (fun e => fq_65b hi hj (by rw [if_pos e]) E hp) (fun e => fq_65b hi hj (by rw [if_neg e]) E hp)))
end
theorem fq_law {post : Int32 → St0 → Prop} (x y z a b : Int32) (hp : post 1 ()) : wpL_lawOf post 32 496 () x y z a b := by
  unfold wpL_lawOf
  refine ⟨by omega, by omega, 4, 119, by omega, by omega, fq_init (by omega) (by omega) (fun a1 a2 a3 a4 E => ?_)⟩
  dsimp only
  unfold wL_lawOf_24
  refine br_c (fun g => fq_25x (Or.inl g) E hp) (fun g0 => br_c (fun g => fq_25x (Or.inr (fq_255 g)) E hp) (fun g => ?_))
  obtain ⟨i, hi, rfl⟩ := fq_in g0 g
  exact fq_25i hi E hp
theorem fq_cell {post : Int32 → Prop} {L : Nat} {xs : Nat → Int32} {u : St0} {k : Nat} (hL : L ≤ 5) (hk : k < 5) (H : ∀ v, post v) : wpL_cellAt post L xs u (nI k) :=
  pk_le L k (fun _ => H _) (fun t => ⟨pk_in k L t, H _⟩)
theorem i_vc (xs : Nat → Int32) (L : Nat) (hL : L ≤ 5) : wpL_law (fun r => r = 1) L xs := by
  unfold wpL_law
  refine fq_cell (k := 0) hL (by omega) (fun x => ?_)
  refine fq_cell (k := 1) hL (by omega) (fun y => ?_)
  refine fq_cell (k := 2) hL (by omega) (fun z => ?_)
  refine fq_cell (k := 3) hL (by omega) (fun a => ?_)
  refine fq_cell (k := 4) hL (by omega) (fun b => ?_)
  exact ⟨32, 496, by omega, by omega, fq_law x y z a b rfl⟩
end

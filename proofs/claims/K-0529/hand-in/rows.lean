section
/-! pure rows: the slot of the greatest stamp in a set of slots, and how the sets change when one slot moves to another class -/
theorem pk_us {f : Nat → Int32} {k : Nat} {x : Int32} : upd f k x k = x := if_pos rfl
theorem pk_un {f : Nat → Int32} {k j : Nat} {x : Int32} (h : j ≠ k) : upd f k x j = f j := if_neg h
theorem pk_ns (z : Int32) : narrow .short (.int z.toInt16.toInt32) = .int z.toInt16.toInt32 := congrArg Value.int (by simp)
theorem pk_fs (r : Int32) : fits .short (.int r.toInt16.toInt32) = true := by
  have ⟨a, b⟩ := lg_i2s_range r
  have h1 : (-32768 : Int32).toInt = -32768 := by decide
  have h2 : (32767 : Int32).toInt = 32767 := by decide
  simp only [fits, Bool.and_eq_true, decide_eq_true_eq, Int32.le_iff_toInt_le, h1, h2]
  omega
theorem pk_vs (z : Int32) : vp_nar .short z.toInt16.toInt32 = z.toInt16.toInt32 := by rw [vp_nar_short]; simp

/-- a function of naturals with one value changed -/
def ec_un (f : Nat → Nat) (k x : Nat) : Nat → Nat := fun j => if j = k then x else f j
theorem ec_us {f : Nat → Nat} {k x : Nat} : ec_un f k x k = x := if_pos rfl
theorem ec_uo {f : Nat → Nat} {k j x : Nat} (h : j ≠ k) : ec_un f k x j = f j := if_neg h

/-- r is the slot of the greatest stamp s among the slots in P, or -1 if there is none -/
def ec_mx (P : Nat → Prop) (s : Nat → Nat) (r : Int32) : Prop :=
  (r = -1 ∧ ∀ j, j < 6 → ¬ P j) ∨ ∃ e, e < 6 ∧ r = nI e ∧ P e ∧ ∀ j, j < 6 → P j → s j ≤ s e
/-- the same, and the lowest slot on ties -/
def ec_bs (P : Nat → Prop) (s : Nat → Nat) (r : Int32) : Prop :=
  (r = -1 ∧ ∀ j, j < 6 → ¬ P j) ∨ ∃ e, e < 6 ∧ r = nI e ∧ P e ∧ (∀ j, j < 6 → P j → s j ≤ s e) ∧ (∀ j, j < e → P j → s j < s e)
/-- used slots of class q with a stamp below b -/
def ec_cl (o s : Nat → Nat) (q b j : Nat) : Prop := o j = q ∧ 0 < s j ∧ s j < b
/-- the same without slot e -/
def ec_cx (o s : Nat → Nat) (e q b j : Nat) : Prop := j ≠ e ∧ ec_cl o s q b j

theorem ec_bm {P : Nat → Prop} {s : Nat → Nat} {r : Int32} (h : ec_bs P s r) : ec_mx P s r := by
  rcases h with h | ⟨e, he, hr, hp, hm, _⟩
  · exact Or.inl h
  · exact Or.inr ⟨e, he, hr, hp, hm⟩
theorem ec_m1 {e : Nat} (h : e < 6) : ¬ (-1 : Int32) = nI e := by
  intro z
  have hn := nI_pos (n := e) (by omega)
  rw [← z] at hn
  exact hn (by decide)
theorem ec_inj {a b : Nat} (ha : a < 6) (hb : b < 6) (h : nI a = nI b) : a = b := (nI_eq (by omega) (by omega)).mp h
theorem ec_i16 : ∀ e, e < 6 → (nI e).toInt16.toInt32 = nI e := by decide +kernel
theorem ec_sm {P : Nat → Prop} {s : Nat → Nat} {r : Int32} (h : ec_mx P s r) : r.toInt16.toInt32 = r := by
  rcases h with ⟨h, _⟩ | ⟨e, he, hr, _⟩
  · rw [h]; decide
  · rw [hr]; exact ec_i16 e he
theorem ec_vn {r : Int32} (h : r.toInt16.toInt32 = r) : vp_nar .short r = r := by rw [vp_nar_short]; exact h
theorem ec_nn {r : Int32} (h : r.toInt16.toInt32 = r) : narrow .short (.int r) = .int r := by
  have z := pk_ns r
  rw [h] at z
  exact z
theorem ec_ft {r : Int32} (h : r.toInt16.toInt32 = r) : fits .short (.int r) = true := by
  have z := pk_fs r
  rw [h] at z
  exact z

theorem ec_cg {P Q : Nat → Prop} {s t : Nat → Nat} {r : Int32} (h : ec_mx P s r) (e : ∀ j, j < 6 → (P j ↔ Q j)) (f : ∀ j, j < 6 → P j → t j = s j) : ec_mx Q t r := by
  rcases h with ⟨h1, h2⟩ | ⟨x, hx, hr, hp, hm⟩
  · exact Or.inl ⟨h1, fun j hj q => h2 j hj ((e j hj).mpr q)⟩
  · refine Or.inr ⟨x, hx, hr, (e x hx).mp hp, fun j hj q => ?_⟩
    have hpj := (e j hj).mpr q
    rw [f j hj hpj, f x hx hp]
    exact hm j hj hpj
theorem ec_uq {P : Nat → Prop} {s : Nat → Nat} {r r' : Int32} (h : ec_mx P s r) (h' : ec_mx P s r') (inj : ∀ i j, i < 6 → j < 6 → P i → s i = s j → i = j) : r = r' := by
  rcases h with ⟨h1, h2⟩ | ⟨x, hx, hr, hp, hm⟩
  · rcases h' with ⟨h1', h2'⟩ | ⟨x', hx', hr', hp', hm'⟩
    · rw [h1, h1']
    · exact absurd hp' (h2 x' hx')
  · rcases h' with ⟨h1', h2'⟩ | ⟨x', hx', hr', hp', hm'⟩
    · exact absurd hp (h2' x hx)
    · have a := hm x' hx' hp'
      have b := hm' x hx hp
      have c := inj x x' hx hx' hp (by omega)
      rw [hr, hr', c]

/-- another slot than e was the greatest: it still is without e -/
theorem ec_keep {o s : Nat → Nat} {e q b : Nat} {r : Int32} (h : ec_mx (ec_cl o s q b) s r) (hr : r ≠ nI e) : ec_mx (ec_cx o s e q b) s r := by
  rcases h with ⟨h1, h2⟩ | ⟨x, hx, hr2, hp, hm⟩
  · exact Or.inl ⟨h1, fun j hj p => h2 j hj p.2⟩
  · refine Or.inr ⟨x, hx, hr2, ⟨fun z => hr (by rw [hr2, z]), hp⟩, fun j hj p => hm j hj p.2⟩
/-- slot e was the greatest: without it the next below is -/
theorem ec_skip {o s : Nat → Nat} {e q b : Nat} {r : Int32} (he : e < 6) (inj : ∀ i j, i < 6 → j < 6 → 0 < s i → s i = s j → i = j) (h : ec_mx (ec_cl o s q b) s (nI e)) (h2 : ec_mx (ec_cl o s q (s e)) s r) : ec_mx (ec_cx o s e q b) s r := by
  rcases h with ⟨h1, _⟩ | ⟨x, hx, hr2, hp, hm⟩
  · exact absurd h1.symm (ec_m1 he)
  · cases ec_inj he hx hr2
    refine ec_cg h2 (fun j hj => ⟨fun p => ?_, fun p => ?_⟩) (fun _ _ _ => rfl)
    · obtain ⟨p1, p2, p3⟩ := p
      obtain ⟨_, _, q3⟩ := hp
      exact ⟨fun z => by rw [z] at p3; omega, p1, p2, by omega⟩
    · obtain ⟨n, p1, p2, p3⟩ := p
      have a := hm j hj ⟨p1, p2, p3⟩
      refine ⟨p1, p2, ?_⟩
      by_cases z : s j = s e
      · exact absurd (inj j e hj he p2 z) n
      · omega

/-- heads and links of all five classes (0: the freed slots) -/
def ec_V (c : Nat) (o s : Nat → Nat) (H N : Nat → Int32) : Prop :=
  (∀ q, q < 5 → ec_mx (ec_cl o s q (c + 1)) s (H q)) ∧ (∀ j, j < 6 → 0 < s j → ec_mx (ec_cl o s (o j) (s j)) s (N j))

/-- slot e, taken out of all chains, goes to the front of class p -/
theorem ec_push {c e p : Nat} {o s : Nat → Nat} {H1 N1 H' N' : Nat → Int32} (he : e < 6) (hc : ∀ j, j < 6 → s j ≤ c)
    (hH : ∀ q, q < 5 → ec_mx (ec_cx o s e q (c + 1)) s (H1 q))
    (hN : ∀ j, j < 6 → j ≠ e → 0 < s j → ec_mx (ec_cx o s e (o j) (s j)) s (N1 j)) (hp : p < 5)
    (ep : H' p = nI e) (eo : ∀ q, q < 5 → q ≠ p → H' q = H1 q) (np : N' e = H1 p) (no : ∀ j, j < 6 → j ≠ e → N' j = N1 j) :
    ec_V (c + 1) (ec_un o e p) (ec_un s e (c + 1)) H' N' := by
  constructor
  · intro q hq
    by_cases z : q = p
    · subst z
      refine Or.inr ⟨e, he, ep, ⟨ec_us, ?_, ?_⟩, fun j hj _ => ?_⟩
      · rw [ec_us]; omega
      · rw [ec_us]; omega
      · by_cases y : j = e
        · rw [y]; exact Nat.le_refl _
        · rw [ec_uo y, ec_us]
          have := hc j hj
          omega
    · rw [eo q hq z]
      refine ec_cg (hH q hq) (fun j hj => ?_) (fun j _ p => ec_uo p.1)
      by_cases y : j = e
      · refine ⟨fun p => absurd y p.1, fun p => ?_⟩
        have h1 := p.1
        rw [y, ec_us] at h1
        exact absurd h1.symm z
      · have hs := hc j hj
        unfold ec_cx ec_cl
        rw [ec_uo y, ec_uo y]
        exact ⟨fun p => ⟨p.2.1, p.2.2.1, by omega⟩, fun p => ⟨y, p.1, p.2.1, by omega⟩⟩
  · intro j hj h0
    by_cases y : j = e
    · subst y
      rw [ec_us, ec_us, np]
      refine ec_cg (hH p hp) (fun i hi => ?_) (fun i _ p => ec_uo p.1)
      by_cases x : i = j
      · refine ⟨fun p => absurd x p.1, fun p => ?_⟩
        have h1 := p.2.2
        rw [x, ec_us] at h1
        omega
      · unfold ec_cx ec_cl
        rw [ec_uo x, ec_uo x]
        exact ⟨fun p => p.2, fun p => ⟨x, p⟩⟩
    · rw [ec_uo y] at h0
      rw [ec_uo y, ec_uo y, no j hj y]
      refine ec_cg (hN j hj y h0) (fun i hi => ?_) (fun i _ p => ec_uo p.1)
      by_cases x : i = e
      · refine ⟨fun p => absurd x p.1, fun p => ?_⟩
        have h1 := p.2.2
        have h2 := hc j hj
        rw [x, ec_us] at h1
        omega
      · unfold ec_cx ec_cl
        rw [ec_uo x, ec_uo x]
        exact ⟨fun p => p.2, fun p => ⟨x, p⟩⟩

/-- the plain facts: used slots are those below m, stamps are at most the clock and differ, owners -/
def ec_B (c m : Nat) (o s : Nat → Nat) : Prop :=
  m ≤ 6 ∧ (∀ j, j < 6 → (0 < s j ↔ j < m)) ∧ (∀ j, j < 6 → s j ≤ c) ∧ (∀ i j, i < 6 → j < 6 → 0 < s i → s i = s j → i = j) ∧ (∀ j, j < 6 → o j < 5) ∧ (∀ j, j < 6 → o j ≠ 0 → 0 < s j)
theorem ec_Bm {c m m' e p : Nat} {o s : Nat → Nat} (h : ec_B c m o s) (he : e < 6) (hp : p < 5) (hm : (m' = m ∧ e < m) ∨ (m' = m + 1 ∧ e = m)) : ec_B (c + 1) m' (ec_un o e p) (ec_un s e (c + 1)) := by
  obtain ⟨b1, b2, b3, b4, b5, b6⟩ := h
  refine ⟨by omega, fun j hj => ?_, fun j hj => ?_, fun i j hi hj h0 h1 => ?_, fun j hj => ?_, fun j hj h0 => ?_⟩
  · by_cases y : j = e
    · subst y; rw [ec_us]; omega
    · rw [ec_uo y, b2 j hj]; omega
  · by_cases y : j = e
    · subst y; rw [ec_us]; omega
    · rw [ec_uo y]; have := b3 j hj; omega
  · have hi3 := b3 i hi
    have hj3 := b3 j hj
    by_cases x : i = e
    · by_cases y : j = e
      · omega
      · subst x; rw [ec_us, ec_uo y] at h1; omega
    · by_cases y : j = e
      · subst y; rw [ec_us, ec_uo x] at h1; omega
      · rw [ec_uo x, ec_uo y] at h1
        rw [ec_uo x] at h0
        exact b4 i j hi hj h0 h1
  · by_cases y : j = e
    · subst y; rw [ec_us]; exact hp
    · rw [ec_uo y]; exact b5 j hj
  · by_cases y : j = e
    · subst y; rw [ec_us]; omega
    · rw [ec_uo y] at h0
      rw [ec_uo y]; exact b6 j hj h0
end
section
/-! the reference's scan: the slot of the greatest stamp, the lowest on ties -/
def ec_J (P : Nat → Prop) (s : Nat → Nat) (i : Nat) (x5 x6 : Int32) : Prop :=
  (x5 = -1 ∧ x6 = -1 ∧ ∀ j, j < i → ¬ P j) ∨ ∃ e, e < i ∧ x5 = nI e ∧ x6 = nI (s e) ∧ P e ∧ (∀ j, j < i → P j → s j ≤ s e) ∧ (∀ j, j < e → P j → s j < s e)
theorem ec_Jn {P : Nat → Prop} {s : Nat → Nat} {i : Nat} {x5 x6 : Int32} (h : ec_J P s i x5 x6) (hn : ¬ P i) : ec_J P s (i + 1) x5 x6 := by
  rcases h with ⟨h1, h2, h3⟩ | ⟨e, he, h1, h2, h3, h4, h5⟩
  · refine Or.inl ⟨h1, h2, fun j hj => ?_⟩
    by_cases y : j = i
    · rw [y]; exact hn
    · exact h3 j (by omega)
  · refine Or.inr ⟨e, by omega, h1, h2, h3, fun j hj p => ?_, h5⟩
    by_cases y : j = i
    · rw [y] at p; exact absurd p hn
    · exact h4 j (by omega) p
theorem ec_m1le {n : Nat} (h : n < 2 ^ 31) : ¬ nI n ≤ (-1 : Int32) := by
  rw [Int32.le_iff_toInt_le, nI_toInt h]
  have e : (-1 : Int32).toInt = -1 := by decide
  rw [e]
  omega
theorem ec_Jl {P : Nat → Prop} {s : Nat → Nat} {i : Nat} {x5 x6 : Int32} (hs : ∀ j, j < 6 → s j < 2 ^ 31) (hi : i < 6) (h : ec_J P s i x5 x6) (hn : nI (s i) ≤ x6) : ec_J P s (i + 1) x5 x6 := by
  rcases h with ⟨h1, h2, h3⟩ | ⟨e, he, h1, h2, h3, h4, h5⟩
  · rw [h2] at hn
    exact absurd hn (ec_m1le (hs i hi))
  · rw [h2, nI_leI (hs i hi) (hs e (by omega))] at hn
    refine Or.inr ⟨e, by omega, h1, h2, h3, fun j hj p => ?_, h5⟩
    by_cases y : j = i
    · rw [y]; exact hn
    · exact h4 j (by omega) p
theorem ec_Jg {P : Nat → Prop} {s : Nat → Nat} {i : Nat} {x5 x6 : Int32} (hs : ∀ j, j < 6 → s j < 2 ^ 31) (hi : i < 6) (h : ec_J P s i x5 x6) (hp : P i) (hn : ¬ nI (s i) ≤ x6) : ec_J P s (i + 1) (nI i) (nI (s i)) := by
  rcases h with ⟨h1, h2, h3⟩ | ⟨e, he, h1, h2, h3, h4, h5⟩
  · refine Or.inr ⟨i, by omega, rfl, rfl, hp, fun j hj p => ?_, fun j hj p => absurd p (h3 j hj)⟩
    by_cases y : j = i
    · rw [y]; exact Nat.le_refl _
    · exact absurd p (h3 j (by omega))
  · rw [h2, nI_leI (hs i hi) (hs e (by omega))] at hn
    refine Or.inr ⟨i, by omega, rfl, rfl, hp, fun j hj p => ?_, fun j hj p => ?_⟩
    · by_cases y : j = i
      · rw [y]; exact Nat.le_refl _
      · have := h4 j (by omega) p
        omega
    · have := h4 j hj p
      omega
theorem ec_best9 {post : Int32 → Prop} {P : Nat → Prop} {x1 x2 x3 x4 F : Int32} {ow d st : Nat → Int32} {o s : Nat → Nat} {q b : Nat}
    (e1 : x1 = nI q) (e2 : x2 = nI b) (hq : q < 2 ^ 31) (hb : b < 2 ^ 31)
    (ho : ∀ j, j < 6 → o j < 2 ^ 31) (hs : ∀ j, j < 6 → s j < 2 ^ 31) (eo : ∀ j, j < 6 → ow j = nI (o j)) (es : ∀ j, j < 6 → st j = nI (s j))
    (hP : ∀ j, j < 6 → (P j ↔ o j = q ∧ s j < b ∧ (x3 = 0 → d j = x4)))
    (K : ∀ r, ec_bs P s r → post r) :
    ∀ (t i : Nat) (x5 x6 : Int32), i + t = 6 → ec_J P s i x5 x6 → wY_best_9 post x1 x2 x3 x4 F ow d st (t + 1) x5 x6 (nI i) := by
  intro t
  induction t with
  | zero =>
    intro i x5 x6 hi hJ
    have hi : i = 6 := by omega
    subst hi
    refine br_t (nI_le (a := 6) (b := 6) (by omega) (by omega)) (K _ ?_)
    rcases hJ with ⟨h1, h2, h3⟩ | ⟨e, he, h1, h2, h3, h4, h5⟩
    · exact Or.inl ⟨h1, h3⟩
    · exact Or.inr ⟨e, he, h1, h3, h4, h5⟩
  | succ t ih =>
    intro i x5 x6 hi hJ
    have hi6 : i < 6 := by omega
    have ce : (nI i).toNatClampNeg = i := nI_clamp (by omega)
    have hin : vp_in (nI i) 6 := vp_in_nI hi6 (by omega)
    have h6 : ¬ (6 : Int32) ≤ nI i := nI_ge (a := i) (b := 6) hi6 (by omega)
    have oc : ow (nI i).toNatClampNeg = nI (o i) := by rw [ce]; exact eo i hi6
    have sc : st (nI i).toNatClampNeg = nI (s i) := by rw [ce]; exact es i hi6
    have dc : d (nI i).toNatClampNeg = d i := by rw [ce]
    have nx : ∀ y5 y6 : Int32, ec_J P s (i + 1) y5 y6 → ∀ y : Int32, y = nI i + 1 → wY_best_9 post x1 x2 x3 x4 F ow d st (t + 1) y5 y6 y := by
      intro y5 y6 h y ey
      rw [ey, nI_1]
      exact ih (i + 1) y5 y6 (by omega) h
    have gd : P i → ¬ nI (s i) ≤ x6 → wY_best_66 post (wY_best_9 post x1 x2 x3 x4 F ow d st (t + 1)) x1 x2 x3 x4 (nI i) F ow d st := by
      intro hp hn
      refine ⟨hin, fun z ez => ?_⟩
      rw [ez, sc]
      exact nx _ _ (ec_Jg hs hi6 hJ hp hn)
    refine br_f h6 ⟨hin, br_c (fun a => ⟨hin, br_c (fun a2 => ?_) (fun a2 => ⟨hin, br_c (fun a3 => ?_) (fun a3 => br_c (fun a4 => ⟨hin, br_c (fun a5 => ?_) (fun a5 => ?_)⟩) (fun a4 => ?_))⟩)⟩) (fun a => ?_)⟩
    all_goals rw [oc, e1, nI_eq (ho i hi6) hq] at a
    · rw [sc, e2, nI_leI hb (hs i hi6)] at a2
      refine nx _ _ (ec_Jn hJ fun p => ?_)
      have := ((hP i hi6).mp p).2.1
      omega
    · rw [sc] at a3
      exact nx _ _ (ec_Jl hs hi6 hJ a3)
    · rw [sc, e2, nI_leI hb (hs i hi6)] at a2
      rw [sc] at a3
      rw [dc] at a5
      exact gd ((hP i hi6).mpr ⟨a, by omega, fun _ => a5⟩) a3
    · rw [dc] at a5
      exact nx _ _ (ec_Jn hJ fun p => a5 (((hP i hi6).mp p).2.2 a4))
    · rw [sc, e2, nI_leI hb (hs i hi6)] at a2
      rw [sc] at a3
      exact gd ((hP i hi6).mpr ⟨a, by omega, fun z => absurd z a4⟩) a3
    · exact nx _ _ (ec_Jn hJ fun p => a ((hP i hi6).mp p).1)
theorem ec_best {post : Int32 → Prop} (P : Nat → Prop) {x1 x2 x3 x4 F : Int32} {ow d st : Nat → Int32} {o s : Nat → Nat} (q b : Nat)
    (e1 : x1 = nI q) (e2 : x2 = nI b) (hq : q < 2 ^ 31) (hb : b < 2 ^ 31)
    (ho : ∀ j, j < 6 → o j < 2 ^ 31) (hs : ∀ j, j < 6 → s j < 2 ^ 31) (eo : ∀ j, j < 6 → ow j = nI (o j)) (es : ∀ j, j < 6 → st j = nI (s j))
    (hP : ∀ j, j < 6 → (P j ↔ o j = q ∧ s j < b ∧ (x3 = 0 → d j = x4)))
    (K : ∀ r, ec_bs P s r → post r) : wpY_best post (F, ow, d, st) x1 x2 x3 x4 := by
  refine ⟨7, ?_⟩
  have h := ec_best9 (post := post) (F := F) e1 e2 hq hb ho hs eo es hP K 6 0 (-1) (-1) rfl (Or.inl ⟨rfl, rfl, fun j hj => absurd hj (by omega)⟩)
  rw [nI_0] at h
  exact h
end
section
/-! the component's walk along a chain -/
/-- the head of class q: 0 the freed slots, q + 1 the chain of node q -/
def ec_Hd (f : Int32) (h : Nat → Int32) : Nat → Int32
  | 0 => f
  | q + 1 => h q
theorem ec_d76 {post : Int32 → SX → Prop} {f U : Int32} {h n1 d l : Nat → Int32} {e : Nat} (he : e < 6) (hf : f.toInt16.toInt32 = f)
    (K : post 1 (nI e, U, h, upd n1 e f, d, upd l e 0)) : wX_drop_76 post (nI e) f U h n1 d l := by
  have ce : (nI e).toNatClampNeg = e := nI_clamp (by omega)
  have hin : vp_in (nI e) 6 := vp_in_nI he (by omega)
  have hb : vp_nar .boolean 0 = 0 := rfl
  unfold wX_drop_76
  rw [ce, ec_vn hf, ec_i16 e he, hb]
  exact ⟨hin, nm_e ⟨hin, nm_e ⟨ec_nn (ec_i16 e he), ec_ft (ec_i16 e he), K⟩⟩⟩
theorem ec_drop25 {post : Int32 → SX → Prop} {f U t : Int32} {h nx d l : Nat → Int32} {o s : Nat → Nat} {c m w : Nat} (hw : w < 4)
    (hB : ec_B c m o s) (hV : ec_V c o s (ec_Hd f h) nx)
    (hNo : (∀ j, j < 6 → o j = w + 1 → ¬ d j = t) → post 0 (f, U, h, nx, d, l))
    (hYes : ∀ (e : Nat) (h1 n1 : Nat → Int32), e < 6 → o e = w + 1 → d e = t → (∀ j, j < 6 → o j = w + 1 → d j = t → s j ≤ s e) →
      (∀ q, q < 5 → ec_mx (ec_cx o s e q (c + 1)) s (ec_Hd f h1 q)) →
      (∀ j, j < 6 → j ≠ e → 0 < s j → ec_mx (ec_cx o s e (o j) (s j)) s (n1 j)) →
      post 1 (nI e, U, h1, upd n1 e f, d, upd l e 0)) :
    ∀ (n b : Nat) (x4 x5 : Int32), b < n → ((x4 = -1 ∧ b = c + 1 ∧ x5 = h w) ∨ ∃ p, p < 6 ∧ x4 = nI p ∧ o p = w + 1 ∧ b = s p ∧ x5 = nx p) →
      ec_mx (ec_cl o s (w + 1) b) s x5 → (∀ j, j < 6 → o j = w + 1 → b ≤ s j → ¬ d j = t) →
      wX_drop_25 post (nI w) t f U h nx d l n x4 x5 := by
  obtain ⟨b1, b2, b3, b4, b5, b6⟩ := hB
  have fs : f.toInt16.toInt32 = f := ec_sm (hV.1 0 (by omega))
  intro n
  induction n with
  | zero => intro b x4 x5 hb; omega
  | succ n ih =>
    intro b x4 x5 hb hx hm hno
    rcases hm with ⟨r1, r2⟩ | ⟨e, he, rfl, he2, hmax⟩
    · refine br_t (by rw [r1]; decide) (hNo fun j hj oj => ?_)
      by_cases y : s j < b
      · exact absurd ⟨oj, b6 j hj (by omega), y⟩ (r2 j hj)
      · exact hno j hj oj (by omega)
    · obtain ⟨oe, se0, seb⟩ := he2
      have ce : (nI e).toNatClampNeg = e := nI_clamp (by omega)
      have cw : (nI w).toNatClampNeg = w := nI_clamp (by omega)
      have hin : vp_in (nI e) 6 := vp_in_nI he (by omega)
      have hne : ec_mx (ec_cl o s (w + 1) (s e)) s (nx e) := by
        have z := hV.2 e he se0
        rw [oe] at z
        exact z
      have hmx : ec_mx (ec_cl o s (w + 1) b) s (nI e) := Or.inr ⟨e, he, rfl, ⟨oe, se0, seb⟩, hmax⟩
      refine br_f (nI_pos (by omega)) ⟨hin, ?_⟩
      rw [ce]
      by_cases hd : d e = t
      · refine br_t hd ?_
        have hbest : ∀ j, j < 6 → o j = w + 1 → d j = t → s j ≤ s e := by
          intro j hj oj dj
          by_cases y : s j < b
          · exact hmax j hj ⟨oj, b6 j hj (by omega), y⟩
          · exact absurd dj (hno j hj oj (by omega))
        rcases hx with ⟨rfl, hb1, hx5⟩ | ⟨p, hp, rfl, op, hb1, hx5⟩
        · refine br_f (by decide) ⟨hin, vp_in_nI hw (by omega), ?_⟩
          rw [cw, ec_vn (ec_sm hne)]
          refine nm_e (ec_d76 he fs (hYes e _ _ he oe hd hbest ?_ ?_))
          · intro q hq
            cases q with
            | zero =>
              refine ec_keep (hV.1 0 hq) fun z => ?_
              rcases hV.1 0 hq with ⟨k1, _⟩ | ⟨x, hx, k1, k2, _⟩
              · exact absurd (k1.symm.trans z) (ec_m1 he)
              · have y := ec_inj hx he (k1.symm.trans z)
                have k3 := k2.1
                rw [y, oe] at k3
                omega
            | succ q =>
              show ec_mx _ s (upd h w (nx e) q)
              by_cases y : q = w
              · subst y
                rw [pk_us]
                subst hb1
                exact ec_skip he b4 hmx hne
              · rw [pk_un y]
                refine ec_keep (hV.1 (q + 1) hq) fun z => ?_
                rcases hV.1 (q + 1) hq with ⟨k1, _⟩ | ⟨x, hx, k1, k2, _⟩
                · exact absurd (k1.symm.trans z) (ec_m1 he)
                · have y := ec_inj hx he (k1.symm.trans z)
                  have k3 := k2.1
                  rw [y, oe] at k3
                  omega
          · intro j hj je sj
            refine ec_keep (hV.2 j hj sj) fun z => ?_
            rcases hV.2 j hj sj with ⟨k1, _⟩ | ⟨x, hx, k1, ⟨k2, k3, k4⟩, _⟩
            · exact absurd (k1.symm.trans z) (ec_m1 he)
            · have y := ec_inj hx he (k1.symm.trans z)
              subst y
              have j3 := b3 j hj
              have := hmax j hj ⟨k2.symm.trans oe, sj, by omega⟩
              omega
        · refine br_t (nI_pos' (by omega)) ⟨hin, vp_in_nI hp (by omega), ?_⟩
          have cp : (nI p).toNatClampNeg = p := nI_clamp (by omega)
          rw [cp, ec_vn (ec_sm hne)]
          subst hb1
          refine nm_e (ec_d76 he fs (hYes e _ _ he oe hd hbest ?_ ?_))
          · intro q hq
            refine ec_keep (hV.1 q hq) fun z => ?_
            rcases hV.1 q hq with ⟨k1, _⟩ | ⟨x, hx, k1, ⟨k2, k3, k4⟩, k5⟩
            · exact absurd (k1.symm.trans z) (ec_m1 he)
            · have y := ec_inj hx he (k1.symm.trans z)
              subst y
              have p3 := b3 p hp
              have := k5 p hp ⟨by omega, by omega, by omega⟩
              omega
          · intro j hj je sj
            by_cases jp : j = p
            · subst jp
              rw [pk_us, op]
              exact ec_skip he b4 hmx hne
            · rw [pk_un jp]
              refine ec_keep (hV.2 j hj sj) fun z => ?_
              rcases hV.2 j hj sj with ⟨k1, _⟩ | ⟨x, hx, k1, ⟨k2, k3, k4⟩, k5⟩
              · exact absurd (k1.symm.trans z) (ec_m1 he)
              · have y := ec_inj hx he (k1.symm.trans z)
                subst y
                by_cases lt : s j < s p
                · have := hmax j hj ⟨by omega, sj, lt⟩
                  omega
                · by_cases eq : s j = s p
                  · exact jp (b4 j p hj hp sj eq)
                  · have := k5 p hp ⟨by omega, by omega, by omega⟩
                    omega
      · refine br_f hd ⟨hin, ?_⟩
        refine nm_e (ih (s e) (nI e) (nx e) (by omega) (Or.inr ⟨e, he, rfl, oe, rfl, rfl⟩) hne fun j hj oj bj dj => ?_)
        by_cases y : s j < b
        · have z := hmax j hj ⟨oj, by omega, y⟩
          have z2 := b4 j e hj he (by omega) (by omega)
          rw [z2] at dj
          exact hd dj
        · exact hno j hj oj (by omega) dj
end
section
/-- component: freeHead f, used m, head h, next nx, target d, live l; reference: clock c, owner ow, dest d, stamp st -/
def ec_R (k : Nat) (u : SX) (v : SY) : Prop :=
  ∃ (c m : Nat) (o s : Nat → Nat) (f : Int32) (h nx d l ow st : Nat → Int32),
    u = (f, nI m, h, nx, d, l) ∧ v = (nI c, ow, d, st) ∧ c ≤ k ∧ ec_B c m o s ∧ ec_V c o s (ec_Hd f h) nx ∧
    (∀ j, j < 6 → (l j = 0 ↔ o j = 0)) ∧ (∀ j, j < 6 → ow j = nI (o j)) ∧ (∀ j, j < 6 → st j = nI (s j))

theorem ec_big : (2147483647 : Int32) = nI 2147483647 := by decide +kernel
theorem ec_ow : ∀ w, w < 4 → vp_nar .short ((nI w + 1).toInt16.toInt32) = nI (w + 1) := by
  intro w hw
  rw [pk_vs]
  revert w
  decide +kernel
theorem ec_s31 {c m : Nat} {o s : Nat → Nat} (hB : ec_B c m o s) (hc : c < 2 ^ 31) : ∀ j, j < 6 → s j < 2 ^ 31 := by
  intro j hj
  have := hB.2.2.1 j hj
  omega
theorem ec_o31 {c m : Nat} {o s : Nat → Nat} (hB : ec_B c m o s) : ∀ j, j < 6 → o j < 2 ^ 31 := by
  intro j hj
  have := hB.2.2.2.2.1 j hj
  omega
/-- an answer of the reference over a class of a node is the component's head or link -/
theorem ec_hd {c m q b B : Nat} {o s : Nat → Nat} {r : Int32} {P : Nat → Prop} (hB : ec_B c m o s) (hq : q ≠ 0) (h : ec_mx (ec_cl o s q b) s r) (hb : ∀ j, j < 6 → (s j < b ↔ s j < B)) (hP : ∀ j, j < 6 → (P j ↔ o j = q ∧ s j < B)) {r' : Int32} (h' : ec_bs P s r') : r' = r := by
  obtain ⟨b1, b2, b3, b4, b5, b6⟩ := hB
  refine ec_uq (ec_bm h') (ec_cg h (fun j hj => ?_) (fun _ _ _ => rfl)) (fun i j hi hj p => b4 i j hi hj (b6 i hi (by rw [((hP i hi).mp p).1]; exact hq)))
  rw [hP j hj, ← hb j hj]
  exact ⟨fun p => ⟨p.1, p.2.2⟩, fun p => ⟨p.1, b6 j hj (by rw [p.1]; exact hq), p.2⟩⟩

theorem ec_first {k : Nat} {u : SX} {v : SY} (I : ec_R k u v) (hk : k + 3 ≤ 1536) (v1 : Int32) (Q : Prop) (hQ : Q) : wpX_first (fun r => wpY_first (fun r' => r' = r ∧ Q) v v1) u v1 := by
  obtain ⟨c, m, o, s, f, h, nx, d, l, ow, st, rfl, rfl, hc, hB, hV, hl, ho, hs⟩ := I
  by_cases h0 : v1 < 0
  · exact br_t h0 (br_t h0 ⟨rfl, hQ⟩)
  by_cases h3 : v1 ≤ 3
  · obtain ⟨w, hw, rfl⟩ := nI_of2 (n := 3) (by decide) h0 h3
    have cw : (nI w).toNatClampNeg = w := nI_clamp (by omega)
    refine br_f h0 (br_t h3 ⟨vp_in_nI (by omega) (by omega), br_f h0 (br_t h3 ?_)⟩)
    refine ec_best (fun j => o j = w + 1 ∧ s j < 2147483647) (w + 1) 2147483647 (nI_1 w) ec_big (by omega) (by omega) (ec_o31 hB) (ec_s31 hB (by omega)) ho hs (fun j hj => ?_) (fun r hr => ⟨?_, hQ⟩)
    · exact ⟨fun p => ⟨p.1, p.2, fun z => absurd z (by decide)⟩, fun p => ⟨p.1, p.2.1⟩⟩
    · rw [cw]
      refine ec_hd hB (q := w + 1) (b := c + 1) (B := 2147483647) (by omega) (hV.1 (w + 1) (by omega)) (fun j hj => ?_) (fun j hj => Iff.rfl) hr
      have := hB.2.2.1 j hj
      omega
  · exact br_f h0 (br_f h3 (br_f h0 (br_f h3 ⟨rfl, hQ⟩)))

theorem ec_after {k : Nat} {u : SX} {v : SY} (I : ec_R k u v) (hk : k + 3 ≤ 1536) (v1 : Int32) (Q : Prop) (hQ : Q) : wpX_after (fun r => wpY_after (fun r' => r' = r ∧ Q) v v1) u v1 := by
  obtain ⟨c, m, o, s, f, h, nx, d, l, ow, st, rfl, rfl, hc, hB, hV, hl, ho, hs⟩ := I
  by_cases h0 : v1 < 0
  · exact br_t h0 (br_t h0 ⟨rfl, hQ⟩)
  by_cases h5 : v1 ≤ 5
  · have h5' : ¬ 5 < v1 := Int32.not_lt.mpr h5
    obtain ⟨e, he, rfl⟩ := nI_of2 (n := 5) (by decide) h0 h5
    have he6 : e < 6 := by omega
    have ce : (nI e).toNatClampNeg = e := nI_clamp (by omega)
    have hin : vp_in (nI e) 6 := vp_in_nI he6 (by omega)
    have lc : l (nI e).toNatClampNeg = l e := by rw [ce]
    have oc : ow (nI e).toNatClampNeg = nI (o e) := by rw [ce]; exact ho e he6
    have sc : st (nI e).toNatClampNeg = nI (s e) := by rw [ce]; exact hs e he6
    by_cases hz : o e = 0
    · have l0 : l (nI e).toNatClampNeg = 0 := by rw [lc]; exact (hl e he6).mpr hz
      have o0 : ow (nI e).toNatClampNeg = 0 := by rw [oc, hz]; exact nI_0
      exact br_f h0 (br_t h5 ⟨hin, br_t l0 (br_f h0 (br_f h5' ⟨hin, br_t o0 ⟨rfl, hQ⟩⟩))⟩)
    · have l0 : ¬ l (nI e).toNatClampNeg = 0 := by rw [lc]; exact fun z => hz ((hl e he6).mp z)
      have o0 : ¬ ow (nI e).toNatClampNeg = 0 := by rw [oc]; exact nI_ne0 (by omega) (ec_o31 hB e he6)
      have s0 := hB.2.2.2.2.2 e he6 hz
      refine br_f h0 (br_t h5 ⟨hin, br_f l0 ⟨hin, br_f h0 (br_f h5' ⟨hin, br_f o0 ⟨hin, hin, ?_⟩⟩)⟩⟩)
      refine ec_best (fun j => o j = o e ∧ s j < s e) (o e) (s e) oc sc (ec_o31 hB e he6) (ec_s31 hB (by omega) e he6) (ec_o31 hB) (ec_s31 hB (by omega)) ho hs (fun j hj => ?_) (fun r hr => ⟨?_, hQ⟩)
      · exact ⟨fun p => ⟨p.1, p.2, fun z => absurd z (by decide)⟩, fun p => ⟨p.1, p.2.1⟩⟩
      · rw [ce]
        exact ec_hd hB (q := o e) (b := s e) (B := s e) hz (hV.2 e he6 s0) (fun j hj => Iff.rfl) (fun j hj => Iff.rfl) hr
  · have h5' : 5 < v1 := Int32.not_le.mp h5
    exact br_f h0 (br_f h5 (br_f h0 (br_t h5' ⟨rfl, hQ⟩)))

/-- the two states behind a move of slot e to class p -/
theorem ec_mv {k c m m' e p : Nat} {o s : Nat → Nat} {f' L : Int32} {h' n1 nx' d l ow st : Nat → Int32} {H1 : Nat → Int32} (hc : c ≤ k) (hB : ec_B c m o s) (he : e < 6) (hp : p < 5)
    (hm : (m' = m ∧ e < m) ∨ (m' = m + 1 ∧ e = m))
    (hH : ∀ q, q < 5 → ec_mx (ec_cx o s e q (c + 1)) s (H1 q))
    (hN : ∀ j, j < 6 → j ≠ e → 0 < s j → ec_mx (ec_cx o s e (o j) (s j)) s (n1 j))
    (ep : ec_Hd f' h' p = nI e) (eo : ∀ q, q < 5 → q ≠ p → ec_Hd f' h' q = H1 q) (enx : nx' = upd n1 e (H1 p))
    (hl : ∀ j, j < 6 → (l j = 0 ↔ o j = 0)) (ho : ∀ j, j < 6 → ow j = nI (o j)) (hs : ∀ j, j < 6 → st j = nI (s j)) (hL : L = 0 ↔ p = 0) :
    ec_R (k + 3) (f', nI m', h', nx', d, upd l e L) (nI c + 1, upd ow e (nI p), d, upd st e (nI c + 1)) := by
  refine ⟨c + 1, m', ec_un o e p, ec_un s e (c + 1), f', h', nx', d, upd l e L, upd ow e (nI p), upd st e (nI c + 1), rfl, by rw [nI_1], by omega, ec_Bm hB he hp hm, ?_, fun j hj => ?_, fun j hj => ?_, fun j hj => ?_⟩
  · refine ec_push he hB.2.2.1 hH hN hp ep eo ?_ ?_
    · rw [enx, pk_us]
    · intro j hj je
      rw [enx, pk_un je]
  · by_cases y : j = e
    · subst y; rw [pk_us, ec_us]; exact hL
    · rw [pk_un y, ec_uo y]; exact hl j hj
  · by_cases y : j = e
    · subst y; rw [pk_us, ec_us]
    · rw [pk_un y, ec_uo y]; exact ho j hj
  · by_cases y : j = e
    · subst y; rw [pk_us, ec_us, nI_1]
    · rw [pk_un y, ec_uo y]; exact hs j hj
theorem ec_up {k : Nat} {u : SX} {v : SY} (I : ec_R k u v) : ec_R (k + 3) u v := by
  obtain ⟨c, m, o, s, f, h, nx, d, l, ow, st, e1, e2, hc, r⟩ := I
  exact ⟨c, m, o, s, f, h, nx, d, l, ow, st, e1, e2, by omega, r⟩

theorem ec_drop {k : Nat} {u : SX} {v : SY} (I : ec_R k u v) (hk : k + 3 ≤ 1536) (v1 v2 : Int32) : wpX_drop (fun r u' => wpY_drop (fun r' v' => r' = r ∧ ec_R (k + 3) u' v') v v1 v2) u v1 v2 := by
  have I3 := ec_up I
  obtain ⟨c, m, o, s, f, h, nx, d, l, ow, st, rfl, rfl, hc, hB, hV, hl, ho, hs⟩ := I
  by_cases h0 : v1 < 0
  · exact br_t h0 (br_t h0 ⟨rfl, I3⟩)
  by_cases h3 : v1 ≤ 3
  · obtain ⟨w, hw, rfl⟩ := nI_of2 (n := 3) (by decide) h0 h3
    have cw : (nI w).toNatClampNeg = w := nI_clamp (by omega)
    have b31 : ∀ j, j < 6 → s j < 2147483647 := fun j hj => by
      have := hB.2.2.1 j hj
      omega
    have hP : ∀ j, j < 6 → ((o j = w + 1 ∧ d j = v2.toInt16.toInt32) ↔ o j = w + 1 ∧ s j < 2147483647 ∧ ((0 : Int32) = 0 → d j = v2.toInt16.toInt32)) :=
      fun j hj => ⟨fun p => ⟨p.1, b31 j hj, fun _ => p.2⟩, fun p => ⟨p.1, p.2.2 rfl⟩⟩
    refine br_f h0 (br_t h3 ⟨vp_in_nI (by omega) (by omega), ?_⟩)
    rw [cw]
    refine nm_e ⟨c + 2, ?_⟩
    refine ec_drop25 (w := w) (c := c) (m := m) (o := o) (s := s) (by omega) hB hV ?_ ?_ (c + 2) (c + 1) (-1) (h w) (by omega) (Or.inl ⟨rfl, rfl, rfl⟩) (hV.1 (w + 1) (by omega)) ?_
    · intro hno
      refine br_f h0 (br_t h3 ?_)
      refine ec_best (fun j => o j = w + 1 ∧ d j = v2.toInt16.toInt32) (w + 1) 2147483647 (nI_1 w) ec_big (by omega) (by omega) (ec_o31 hB) (ec_s31 hB (by omega)) ho hs hP (fun r hr => ?_)
      rcases hr with ⟨r1, _⟩ | ⟨e, he, _, r2, _⟩
      · exact br_f (by rw [r1]; decide) ⟨rfl, I3⟩
      · exact absurd r2.2 (hno e he r2.1)
    · intro e h1 n1 he oe de hmax hH hN
      refine br_f h0 (br_t h3 ?_)
      refine ec_best (fun j => o j = w + 1 ∧ d j = v2.toInt16.toInt32) (w + 1) 2147483647 (nI_1 w) ec_big (by omega) (by omega) (ec_o31 hB) (ec_s31 hB (by omega)) ho hs hP (fun r hr => ?_)
      have s0 := hB.2.2.2.2.2 e he (by omega)
      have er : r = nI e := by
        refine ec_uq (ec_bm hr) (Or.inr ⟨e, he, rfl, ⟨oe, de⟩, fun j hj p => hmax j hj p.1 p.2⟩) (fun i j hi hj p => hB.2.2.2.1 i j hi hj (hB.2.2.2.2.2 i hi (by rw [p.1]; omega)))
      have ce : (nI e).toNatClampNeg = e := nI_clamp (by omega)
      have hin : vp_in (nI e) 6 := vp_in_nI he (by omega)
      have hz : vp_nar .short 0 = nI 0 := by rw [vp_nar_short]; decide
      rw [er]
      refine br_t (nI_pos' (by omega)) ⟨hin, ?_⟩
      rw [ce, hz]
      refine nm_e (nm_e ⟨hin, nm_e ⟨rfl, ?_⟩⟩)
      exact ec_mv (H1 := ec_Hd f h1) hc hB he (by omega) (Or.inl ⟨rfl, (hB.2.1 e he).mp s0⟩) hH hN rfl (fun q hq qz => by cases q with | zero => exact absurd rfl qz | succ q => rfl) rfl hl ho hs ⟨fun _ => rfl, fun _ => rfl⟩
    · intro j hj _ b
      have := hB.2.2.1 j hj
      omega
  · exact br_f h0 (br_f h3 (br_f h0 (br_f h3 ⟨rfl, I3⟩)))

/-- the tail of add, on both sides, once the slot is found -/
theorem ec_add65 {k c m m' e w : Nat} {o s : Nat → Nat} {f1 : Int32} {h nx d l ow st : Nat → Int32} {p1 : Int32} (hk : k + 3 ≤ 1536) (hc : c ≤ k) (hB : ec_B c m o s) (hw : w < 4) (he : e < 6)
    (hm : (m' = m ∧ e < m) ∨ (m' = m + 1 ∧ e = m))
    (hH : ∀ q, q < 5 → ec_mx (ec_cx o s e q (c + 1)) s (ec_Hd f1 h q))
    (hN : ∀ j, j < 6 → j ≠ e → 0 < s j → ec_mx (ec_cx o s e (o j) (s j)) s (nx j))
    (hl : ∀ j, j < 6 → (l j = 0 ↔ o j = 0)) (ho : ∀ j, j < 6 → ow j = nI (o j)) (hs : ∀ j, j < 6 → st j = nI (s j))
    (hY : ∀ r, ec_bs (fun j => o j = 0) s r → r = nI e) :
    wX_add_65 (fun r u' => wpY_add (fun r' v' => r' = r ∧ ec_R (k + 3) u' v') (nI c, ow, d, st) (nI w) p1) (nI w) p1 (nI e) f1 (nI m') h nx d l := by
  have ce : (nI e).toNatClampNeg = e := nI_clamp (by omega)
  have cw : (nI w).toNatClampNeg = w := nI_clamp (by omega)
  have hin : vp_in (nI e) 6 := vp_in_nI he (by omega)
  have hiw : vp_in (nI w) 4 := vp_in_nI hw (by omega)
  have h0 : ¬ nI w < 0 := nI_pos (by omega)
  have h3 : nI w ≤ 3 := nI_le (b := 3) (by omega) (by omega)
  have b1 : vp_nar .boolean 1 = 1 := rfl
  unfold wX_add_65
  rw [ce, cw, ec_vn (ec_sm (hH (w + 1) (by omega)) : (h w).toInt16.toInt32 = h w), pk_vs (nI e), ec_i16 e he, b1]
  refine ⟨hin, nm_e ⟨hiw, hin, nm_e ⟨hiw, nm_e ⟨hin, nm_e ?_⟩⟩⟩⟩
  refine br_f h0 (br_t h3 ?_)
  have b31 : ∀ j, j < 6 → s j < 2147483647 := fun j hj => by
    have := hB.2.2.1 j hj
    omega
  refine ec_best (fun j => o j = 0) 0 2147483647 rfl ec_big (by omega) (by omega) (ec_o31 hB) (ec_s31 hB (by omega)) ho hs (fun j hj => ⟨fun p => ⟨p, b31 j hj, fun z => absurd z (by decide)⟩, fun p => p.1⟩) (fun r hr => ?_)
  rw [hY r hr]
  refine br_t (nI_pos' (by omega)) ⟨hin, ?_⟩
  rw [ce, ec_ow w hw]
  refine nm_e ⟨hin, nm_e (nm_e ⟨hin, nm_e ⟨rfl, ?_⟩⟩)⟩
  refine ec_mv (p := w + 1) (H1 := ec_Hd f1 h) hc hB he (by omega) hm hH hN ?_ ?_ rfl hl ho hs ⟨fun z => absurd z (by decide), fun z => absurd z (by omega)⟩
  · exact pk_us
  · intro q hq qz
    cases q with
    | zero => rfl
    | succ q => exact pk_un (by omega)

theorem ec_add {k : Nat} {u : SX} {v : SY} (I : ec_R k u v) (hk : k + 3 ≤ 1536) (v1 v2 : Int32) : wpX_add (fun r u' => wpY_add (fun r' v' => r' = r ∧ ec_R (k + 3) u' v') v v1 v2) u v1 v2 := by
  have I3 := ec_up I
  obtain ⟨c, m, o, s, f, h, nx, d, l, ow, st, rfl, rfl, hc, hB, hV, hl, ho, hs⟩ := I
  by_cases h0 : v1 < 0
  · exact br_t h0 (br_t h0 ⟨rfl, I3⟩)
  by_cases h3 : v1 ≤ 3
  · obtain ⟨w, hw, rfl⟩ := nI_of2 (n := 3) (by decide) h0 h3
    have ⟨b1, b2, b3, b4, b5, b6⟩ := hB
    have b31 : ∀ j, j < 6 → s j < 2147483647 := fun j hj => by
      have := b3 j hj
      omega
    refine br_f h0 (br_t h3 ?_)
    rcases hV.1 0 (by omega) with ⟨r1, r2⟩ | ⟨e, he, r1, r2, r3⟩
    · have r1 : f = -1 := r1
      refine br_t (by rw [r1]; decide) ?_
      have fz : ∀ j, j < 6 → o j = 0 → s j = 0 := fun j hj oj => by
        have a := r2 j hj
        have b := b3 j hj
        by_cases z : s j = 0
        · exact z
        · exact absurd ⟨oj, by omega, by omega⟩ a
      by_cases m6 : m < 6
      · refine br_f (nI_ge (a := m) (b := 6) m6 (by omega)) ?_
        rw [nI_1]
        have sm : s m = 0 := by
          have := b2 m m6
          omega
        have om : o m = 0 := by
          by_cases z : o m = 0
          · exact z
          · have := b6 m m6 z
            omega
        have nm : ∀ {q b : Nat} {r : Int32}, ec_mx (ec_cl o s q b) s r → r ≠ nI m := by
          intro q b r hr z
          rcases hr with ⟨k1, _⟩ | ⟨x, hx, k1, ⟨k2, k3, k4⟩, _⟩
          · exact absurd (k1.symm.trans z) (ec_m1 m6)
          · have y := ec_inj hx m6 (k1.symm.trans z)
            rw [y] at k3
            omega
        refine nm_e (ec_add65 hk hc hB (by omega) m6 (Or.inr ⟨rfl, rfl⟩) (fun q hq => ec_keep (hV.1 q hq) (nm (hV.1 q hq))) (fun j hj _ sj => ec_keep (hV.2 j hj sj) (nm (hV.2 j hj sj))) hl ho hs (fun r hr => ?_))
        rcases hr with ⟨_, k2⟩ | ⟨x, hx, k1, k2, k3, k4⟩
        · exact absurd om (k2 m m6)
        · have sx := fz x hx k2
          have bx := b2 x hx
          by_cases z : m < x
          · have := k4 m z om
            omega
          · have z2 : x = m := by omega
            rw [k1, z2]
      · refine br_t (nI_le (a := 6) (b := m) (by omega) (by omega)) (br_f h0 (br_t h3 ?_))
        refine ec_best (fun j => o j = 0) 0 2147483647 rfl ec_big (by omega) (by omega) (ec_o31 hB) (ec_s31 hB (by omega)) ho hs (fun j hj => ⟨fun p => ⟨p, b31 j hj, fun z => absurd z (by decide)⟩, fun p => p.1⟩) (fun r hr => ?_)
        rcases hr with ⟨k1, _⟩ | ⟨x, hx, k1, k2, _⟩
        · exact br_f (by rw [k1]; decide) ⟨rfl, I3⟩
        · have sx := fz x hx k2
          have bx := b2 x hx
          omega
    · have r1 : f = nI e := r1
      subst r1
      obtain ⟨oe, se0, _⟩ := r2
      have ce : (nI e).toNatClampNeg = e := nI_clamp (by omega)
      have hin : vp_in (nI e) 6 := vp_in_nI he (by omega)
      have hne : ec_mx (ec_cl o s 0 (s e)) s (nx e) := by
        have z := hV.2 e he se0
        rw [oe] at z
        exact z
      have h00 : ec_mx (ec_cl o s 0 (c + 1)) s (nI e) := hV.1 0 (by omega)
      refine br_f (nI_pos (by omega)) ⟨hin, ?_⟩
      rw [ce]
      refine nm_e ⟨ec_nn (ec_sm hne), ec_ft (ec_sm hne), ?_⟩
      refine ec_add65 hk hc hB (by omega) he (Or.inl ⟨rfl, (b2 e he).mp se0⟩) (fun q hq => ?_) (fun j hj je sj => ?_) hl ho hs (fun r hr => ?_)
      · cases q with
        | zero => exact ec_skip he b4 h00 hne
        | succ q =>
          refine ec_keep (hV.1 (q + 1) hq) fun z => ?_
          rcases hV.1 (q + 1) hq with ⟨k1, _⟩ | ⟨x, hx, k1, ⟨k2, k3, k4⟩, _⟩
          · exact absurd (k1.symm.trans z) (ec_m1 he)
          · have y := ec_inj hx he (k1.symm.trans z)
            rw [y] at k2
            omega
      · refine ec_keep (hV.2 j hj sj) fun z => ?_
        rcases hV.2 j hj sj with ⟨k1, _⟩ | ⟨x, hx, k1, ⟨k2, k3, k4⟩, _⟩
        · exact absurd (k1.symm.trans z) (ec_m1 he)
        · have y := ec_inj hx he (k1.symm.trans z)
          subst y
          have jc := b3 j hj
          have := r3 j hj ⟨by omega, sj, by omega⟩
          omega
      · rcases hr with ⟨_, k2⟩ | ⟨x, hx, k1, k2, k3, _⟩
        · exact absurd oe (k2 e he)
        · have a := k3 e he oe
          have xc := b3 x hx
          have b := r3 x hx ⟨k2, by omega, by omega⟩
          have z := b4 x e hx he (by omega) (by omega)
          rw [k1, z]
  · exact br_f h0 (br_f h3 (br_f h0 (br_f h3 ⟨rfl, I3⟩)))

/-! the constructors -/
theorem ec_uz {i : Nat} : upd (fun _ => 0) i 0 = fun _ => (0 : Int32) := by
  funext j
  unfold upd
  split <;> rfl
theorem ec_i57 {post : SX → Prop} {F U : Int32} {h : Nat → Int32} (K : ∀ nx, post (-1, 0, h, nx, fun _ => 0, fun _ => 0)) :
    ∀ (t i : Nat) (nx : Nat → Int32), i + t = 6 → wX_init_57 post F U (t + 1) (nI i) h nx (fun _ => 0) (fun _ => 0) := by
  intro t
  induction t with
  | zero =>
    intro i nx hi
    have hi : i = 6 := by omega
    subst hi
    exact br_t (nI_le (a := 6) (b := 6) (by omega) (by omega)) (K nx)
  | succ t ih =>
    intro i nx hi
    have hin : vp_in (nI i) 6 := vp_in_nI (by omega) (by omega)
    have z1 : vp_nar .short 0 = 0 := by rw [vp_nar_short]; decide
    have z2 : vp_nar .boolean 0 = 0 := rfl
    refine br_f (nI_ge (a := i) (b := 6) (by omega) (by omega)) ?_
    rw [z1, z2, ec_uz, nI_1]
    exact ⟨hin, nm_e ⟨hin, nm_e ⟨hin, nm_e (nm_e (ih (i + 1) _ (by omega)))⟩⟩⟩
theorem ec_i37 {post : SX → Prop} {F U : Int32} {nx : Nat → Int32} (K : ∀ h nx, (∀ j, j < 4 → h j = -1) → post (-1, 0, h, nx, fun _ => 0, fun _ => 0)) :
    ∀ (t i : Nat) (h : Nat → Int32), i + t = 4 → (∀ j, j < i → h j = -1) → wX_init_37 post F U (t + 1) (nI i) h nx (fun _ => 0) (fun _ => 0) := by
  intro t
  induction t with
  | zero =>
    intro i h hi hh
    have hi : i = 4 := by omega
    subst hi
    refine br_t (nI_le (a := 4) (b := 4) (by omega) (by omega)) ⟨7, ?_⟩
    have z := ec_i57 (post := post) (F := F) (U := U) (h := h) (fun nx => K h nx hh) 6 0 nx rfl
    rw [nI_0] at z
    exact z
  | succ t ih =>
    intro i h hi hh
    have hin : vp_in (nI i) 4 := vp_in_nI (by omega) (by omega)
    have ce : (nI i).toNatClampNeg = i := nI_clamp (by omega)
    have z1 : vp_nar .short (-1) = -1 := by rw [vp_nar_short]; decide
    refine br_f (nI_ge (a := i) (b := 4) (by omega) (by omega)) ?_
    rw [z1, nI_1, ce]
    refine ⟨hin, nm_e (nm_e (ih (i + 1) _ (by omega) fun j hj => ?_))⟩
    by_cases y : j = i
    · rw [y]; exact pk_us
    · rw [pk_un y]; exact hh j (by omega)
theorem ec_init : wpX_init (fun u => wpY_init (fun v => ec_R 0 u v)) := by
  refine ⟨5, ?_⟩
  have z := ec_i37 (post := fun u => wpY_init (fun v => ec_R 0 u v)) (F := 0) (U := 0) (nx := fun _ => 0) (fun h nx hh => ?_) 4 0 (fun _ => 0) rfl (fun j hj => absurd hj (by omega))
  · rw [nI_0] at z
    exact z
  · refine ⟨0, 0, fun _ => 0, fun _ => 0, -1, h, nx, fun _ => 0, fun _ => 0, fun _ => 0, fun _ => 0, rfl, rfl, by omega, ⟨by omega, fun j hj => ?_, fun j hj => ?_, fun i j hi hj h0 => ?_, fun j hj => ?_, fun j hj h0 => ?_⟩, ⟨fun q hq => Or.inl ⟨?_, fun j hj p => ?_⟩, fun j hj h0 => ?_⟩, fun j hj => ⟨fun _ => rfl, fun _ => rfl⟩, fun j hj => rfl, fun j hj => rfl⟩
    · show 0 < 0 ↔ j < 0
      omega
    · exact Nat.le_refl _
    · exact absurd h0 (Nat.lt_irrefl 0)
    · show 0 < 5
      omega
    · exact absurd rfl h0
    · cases q with
      | zero => rfl
      | succ q => exact hh q (by omega)
    · exact absurd p.2.1 (Nat.lt_irrefl 0)
    · exact absurd h0 (Nat.lt_irrefl 0)
end
section
/-- the relation at the head of a turn whose first cell is k: (u : SX) is (f_freeHead, f_used, a_head, a_next, a_target, a_live), (v : SY) is (f_clock, a_owner, a_dest, a_stamp) -/
def i_Rel (k : Nat) (u : SX) (v : SY) : Prop := ec_R k u v
theorem i_up {k : Nat} {u : SX} {v : SY} (h : i_Rel k u v) : i_Rel (k + 3) u v := ec_up h
theorem i_vc0 : wpX_init (fun u => wpY_init (fun v => i_Rel 0 u v)) := ec_init
theorem i_vc_add {k : Nat} {u : SX} {v : SY} (I : i_Rel k u v) (hk : k + 3 ≤ 1536) (v1 : Int32) (v2 : Int32) : wpX_add (fun r u' => wpY_add (fun r' v' => r' = r ∧ i_Rel (k + 3) u' v') v v1 v2) u v1 v2 := ec_add I hk v1 v2
theorem i_vc_first {k : Nat} {u : SX} {v : SY} (I : i_Rel k u v) (hk : k + 3 ≤ 1536) (v1 : Int32) : wpX_first (fun r => wpY_first (fun r' => r' = r ∧ i_Rel (k + 3) u v) v v1) u v1 := ec_first I hk v1 _ (ec_up I)
theorem i_vc_after {k : Nat} {u : SX} {v : SY} (I : i_Rel k u v) (hk : k + 3 ≤ 1536) (v1 : Int32) : wpX_after (fun r => wpY_after (fun r' => r' = r ∧ i_Rel (k + 3) u v) v v1) u v1 := ec_after I hk v1 _ (ec_up I)
theorem i_vc_drop {k : Nat} {u : SX} {v : SY} (I : i_Rel k u v) (hk : k + 3 ≤ 1536) (v1 : Int32) (v2 : Int32) : wpX_drop (fun r u' => wpY_drop (fun r' v' => r' = r ∧ i_Rel (k + 3) u' v') v v1 v2) u v1 v2 := ec_drop I hk v1 v2
end

section
/-- bit x of a set of moves -/
def gv_in (s : Int32) (x : Nat) : Bool := decide (¬ ((s >>> (nI x &&& 31)) &&& 1) = 0)
/-- the cell of a triple -/
def gv_ix (u v w : Nat) : Nat := (u * 10 + v) * 10 + w
/-- a move to x is there, and the table says yes at k -/
def gv_c (s : Int32) (x : Nat) (M : Nat → Int32) (k : Nat) : Bool := gv_in s x && decide (¬ M k = 0)
/-- x spoils the triple p q r -/
def gv_bad (A B M : Nat → Int32) (p q r x : Nat) : Bool := gv_c (B p) x M (gv_ix x q r) || (gv_c (B q) x M (gv_ix p x r) || gv_c (A r) x M (gv_ix p q x))
/-- what staysAbove A B M (and staysBelow B A M) answers among c positions -/
def gv_stay (A B M : Nat → Int32) (c p q r : Nat) : Int32 := bif (List.range c).any (gv_bad A B M p q r) then 0 else 1
theorem gv_ix_lt {u v w : Nat} (hu : u < 10) (hv : v < 10) (hw : w < 10) : gv_ix u v w < 1000 := by
  unfold gv_ix
  omega
theorem gv_ixI (u v w : Nat) : ((nI u * 10 + nI v) * 10 + nI w) = nI (gv_ix u v w) := by
  show ((nI u * nI 10 + nI v) * nI 10 + nI w) = nI (gv_ix u v w)
  rw [pk_mul, nI_add, pk_mul, nI_add]
  rfl
theorem gv_and {M : Nat → Int32} {F T : Prop} {s : Int32} {x u v w : Nat} (hu : u < 10) (hv : v < 10) (hw : w < 10)
    (hF : gv_c s x M (gv_ix u v w) = false → F) (hT : gv_c s x M (gv_ix u v w) = true → T) :
    wpX_in (fun r => ((r = 0 → F) ∧ (¬ r = 0 → (wpX_cell (fun c => (vp_in c 1000 ∧ ((M c.toNatClampNeg = 0 → F) ∧ (¬ M c.toNatClampNeg = 0 → T)))) () (nI u) (nI v) (nI w))))) () s (nI x) := by
  have hk := gv_ix_lt hu hv hw
  refine br_c (fun h => br_t rfl (hF ?_)) (fun h => br_f (by decide) ?_)
  · simp [gv_c, gv_in, h]
  · unfold wpX_cell
    dsimp only
    rw [gv_ixI, nI_clamp (by omega)]
    refine ⟨vp_in_nI hk (by omega), br_c (fun h2 => hF ?_) (fun h2 => hT ?_)⟩
    · simp [gv_c, h2]
    · simp [gv_c, gv_in, h, h2]
theorem gv_stay0 {A B M : Nat → Int32} {c p q r x : Nat} (hx : x < c) (h : gv_bad A B M p q r x = true) : gv_stay A B M c p q r = 0 := by
  have e : (List.range c).any (gv_bad A B M p q r) = true := List.any_eq_true.mpr ⟨x, List.mem_range.mpr hx, h⟩
  unfold gv_stay
  rw [e]
  rfl
theorem gv_stay1 {A B M : Nat → Int32} {c p q r : Nat} (h : ∀ x, x < c → gv_bad A B M p q r x = false) : gv_stay A B M c p q r = 1 := by
  have e : (List.range c).any (gv_bad A B M p q r) = false := by
    rw [List.any_eq_false]
    intro x hx
    rw [h x (List.mem_range.mp hx)]
    decide
  unfold gv_stay
  rw [e]
  rfl
theorem gv_stay01 (A B M : Nat → Int32) (c p q r : Nat) : gv_stay A B M c p q r = 0 ∨ gv_stay A B M c p q r = 1 := by
  unfold gv_stay
  cases (List.range c).any (gv_bad A B M p q r)
  · exact Or.inr rfl
  · exact Or.inl rfl
theorem gv_b3 {a b c : Bool} (h1 : a = false) (h2 : b = false) (h3 : c = false) : (a || (b || c)) = false := by
  rw [h1, h2, h3]
  rfl
theorem gv_t3 {a b c : Bool} (h : ¬ (a = false ∧ b = false ∧ c = false)) : (a || (b || c)) = true := by
  cases a
  · cases b
    · cases c
      · exact absurd ⟨rfl, rfl, rfl⟩ h
      · rfl
    · rfl
  · rfl
theorem gv_sa118 {post J3 : Int32 → Prop} {x1 x2 x3 x5 x6 z0 fc fk : Int32} {a1 a2 a3 a4 : Nat → Int32} {x : Nat} (hJ : x5 = 0 → x6 = 0 → z0 = 0 → J3 (nI (x + 1))) (hP : ¬ (x5 = 0 ∧ x6 = 0 ∧ z0 = 0) → post 0) :
    wX_staysAbove_118 post J3 x1 x2 x3 (nI x) x5 x6 z0 fc fk a1 a2 a3 a4 :=
  br_c (fun a => br_c (fun b => br_c (fun c => nm_r (nI_1 x) (hJ a b c)) (fun c => hP (fun t => c t.2.2))) (fun b => hP (fun t => b t.2.1))) (fun a => hP (fun t => a t.1))
theorem gv_sa82 {post J3 : Int32 → Prop} {x5 z0 fc fk : Int32} {a1 a2 a3 a4 : Nat → Int32} {p q r x : Nat} (hp : p < 10) (hq : q < 10) (hr : r < 10) (hx : x < 10)
    (hJ : x5 = 0 → z0 = 0 → gv_c (a1 r) x a4 (gv_ix p q x) = false → J3 (nI (x + 1))) (hP : ¬ (x5 = 0 ∧ z0 = 0 ∧ gv_c (a1 r) x a4 (gv_ix p q x) = false) → post 0) :
    wX_staysAbove_82 post J3 (nI p) (nI q) (nI r) (nI x) x5 z0 fc fk a1 a2 a3 a4 := by
  unfold wX_staysAbove_82
  rw [nI_clamp (show r < 2 ^ 31 by omega)]
  refine ⟨pk_in r 10 hr, gv_and hp hq hx (fun h => ?_) (fun h => ?_)⟩
  · exact gv_sa118 (fun a b _ => hJ a b h) (fun t => hP (fun s => t ⟨s.1, s.2.1, rfl⟩))
  · exact gv_sa118 (fun _ _ z => absurd z (by decide)) (fun _ => hP (fun s => absurd (h.symm.trans s.2.2) (by decide)))
theorem gv_sa46 {post J3 : Int32 → Prop} {z0 fc fk : Int32} {a1 a2 a3 a4 : Nat → Int32} {p q r x : Nat} (hp : p < 10) (hq : q < 10) (hr : r < 10) (hx : x < 10)
    (hJ : z0 = 0 → gv_c (a2 q) x a4 (gv_ix p x r) = false → gv_c (a1 r) x a4 (gv_ix p q x) = false → J3 (nI (x + 1)))
    (hP : ¬ (z0 = 0 ∧ gv_c (a2 q) x a4 (gv_ix p x r) = false ∧ gv_c (a1 r) x a4 (gv_ix p q x) = false) → post 0) :
    wX_staysAbove_46 post J3 (nI p) (nI q) (nI r) (nI x) z0 fc fk a1 a2 a3 a4 := by
  unfold wX_staysAbove_46
  rw [nI_clamp (show q < 2 ^ 31 by omega)]
  refine ⟨pk_in q 10 hq, gv_and hp hx hr (fun h => ?_) (fun h => ?_)⟩
  · exact gv_sa82 hp hq hr hx (fun a _ b => hJ a h b) (fun t => hP (fun s => t ⟨s.1, rfl, s.2.2⟩))
  · exact gv_sa82 hp hq hr hx (fun _ z _ => absurd z (by decide)) (fun _ => hP (fun s => absurd (h.symm.trans s.2.1) (by decide)))
theorem gv_sa3 {post : Int32 → Prop} {fk : Int32} {a1 a2 a3 a4 : Nat → Int32} {c p q r x n : Nat} (hc : c ≤ 10) (hp : p < 10) (hq : q < 10) (hr : r < 10) (hx : x < c)
    (hJ : gv_bad a1 a2 a4 p q r x = false → wX_staysAbove_3 post (nI p) (nI q) (nI r) (nI c) fk a1 a2 a3 a4 n (nI (x + 1))) (hP : gv_bad a1 a2 a4 p q r x = true → post 0) :
    wX_staysAbove_3 post (nI p) (nI q) (nI r) (nI c) fk a1 a2 a3 a4 (n + 1) (nI x) := by
  refine pk_le c x (fun z => absurd z (by omega)) (fun _ => ?_)
  rw [nI_clamp (show p < 2 ^ 31 by omega)]
  refine ⟨pk_in p 10 hp, gv_and (show x < 10 by omega) hq hr (fun h => ?_) (fun h => ?_)⟩
  · exact gv_sa46 hp hq hr (by omega) (fun _ a b => hJ (gv_b3 h a b)) (fun t => hP (gv_t3 (fun s => t ⟨rfl, s.2⟩)))
  · exact gv_sa46 hp hq hr (by omega) (fun z _ _ => absurd z (by decide)) (fun _ => hP (gv_t3 (fun s => absurd (h.symm.trans s.1) (by decide))))
theorem gv_sa {post : Int32 → Prop} {fk : Int32} {a1 a2 a3 a4 : Nat → Int32} {c p q r : Nat} (hc : c ≤ 10) (hp : p < 10) (hq : q < 10) (hr : r < 10)
    (H : post (gv_stay a1 a2 a4 c p q r)) : wpX_staysAbove post (nI c, fk, a1, a2, a3, a4) (nI p) (nI q) (nI r) :=
  pk_loop (σ := Unit) (fun n i _ => wX_staysAbove_3 post (nI p) (nI q) (nI r) (nI c) fk a1 a2 a3 a4 n (nI i)) (fun i _ => ∀ x, x < i → gv_bad a1 a2 a4 p q r x = false) c 0 () (by omega) (fun x hx => absurd hx (by omega))
    (fun n _ h => pk_le c c (fun _ => by rw [gv_stay1 h] at H; exact H) (fun z => absurd z (by omega)))
    (fun n i _ hi h hw => gv_sa3 hc hp hq hr hi (fun b => hw () (lt_s h b)) (fun b => by rw [gv_stay0 hi b] at H; exact H))
theorem gv_sb118 {post J3 : Int32 → Prop} {x1 x2 x3 x5 x6 z0 fc fk : Int32} {a1 a2 a3 a4 : Nat → Int32} {x : Nat} (hJ : x5 = 0 → x6 = 0 → z0 = 0 → J3 (nI (x + 1))) (hP : ¬ (x5 = 0 ∧ x6 = 0 ∧ z0 = 0) → post 0) :
    wX_staysBelow_118 post J3 x1 x2 x3 (nI x) x5 x6 z0 fc fk a1 a2 a3 a4 :=
  br_c (fun a => br_c (fun b => br_c (fun c => nm_r (nI_1 x) (hJ a b c)) (fun c => hP (fun t => c t.2.2))) (fun b => hP (fun t => b t.2.1))) (fun a => hP (fun t => a t.1))
theorem gv_sb82 {post J3 : Int32 → Prop} {x5 z0 fc fk : Int32} {a1 a2 a3 a4 : Nat → Int32} {p q r x : Nat} (hp : p < 10) (hq : q < 10) (hr : r < 10) (hx : x < 10)
    (hJ : x5 = 0 → z0 = 0 → gv_c (a2 r) x a3 (gv_ix p q x) = false → J3 (nI (x + 1))) (hP : ¬ (x5 = 0 ∧ z0 = 0 ∧ gv_c (a2 r) x a3 (gv_ix p q x) = false) → post 0) :
    wX_staysBelow_82 post J3 (nI p) (nI q) (nI r) (nI x) x5 z0 fc fk a1 a2 a3 a4 := by
  unfold wX_staysBelow_82
  rw [nI_clamp (show r < 2 ^ 31 by omega)]
  refine ⟨pk_in r 10 hr, gv_and hp hq hx (fun h => ?_) (fun h => ?_)⟩
  · exact gv_sb118 (fun a b _ => hJ a b h) (fun t => hP (fun s => t ⟨s.1, s.2.1, rfl⟩))
  · exact gv_sb118 (fun _ _ z => absurd z (by decide)) (fun _ => hP (fun s => absurd (h.symm.trans s.2.2) (by decide)))
theorem gv_sb46 {post J3 : Int32 → Prop} {z0 fc fk : Int32} {a1 a2 a3 a4 : Nat → Int32} {p q r x : Nat} (hp : p < 10) (hq : q < 10) (hr : r < 10) (hx : x < 10)
    (hJ : z0 = 0 → gv_c (a1 q) x a3 (gv_ix p x r) = false → gv_c (a2 r) x a3 (gv_ix p q x) = false → J3 (nI (x + 1)))
    (hP : ¬ (z0 = 0 ∧ gv_c (a1 q) x a3 (gv_ix p x r) = false ∧ gv_c (a2 r) x a3 (gv_ix p q x) = false) → post 0) :
    wX_staysBelow_46 post J3 (nI p) (nI q) (nI r) (nI x) z0 fc fk a1 a2 a3 a4 := by
  unfold wX_staysBelow_46
  rw [nI_clamp (show q < 2 ^ 31 by omega)]
  refine ⟨pk_in q 10 hq, gv_and hp hx hr (fun h => ?_) (fun h => ?_)⟩
  · exact gv_sb82 hp hq hr hx (fun a _ b => hJ a h b) (fun t => hP (fun s => t ⟨s.1, rfl, s.2.2⟩))
  · exact gv_sb82 hp hq hr hx (fun _ z _ => absurd z (by decide)) (fun _ => hP (fun s => absurd (h.symm.trans s.2.1) (by decide)))
theorem gv_sb3 {post : Int32 → Prop} {fk : Int32} {a1 a2 a3 a4 : Nat → Int32} {c p q r x n : Nat} (hc : c ≤ 10) (hp : p < 10) (hq : q < 10) (hr : r < 10) (hx : x < c)
    (hJ : gv_bad a2 a1 a3 p q r x = false → wX_staysBelow_3 post (nI p) (nI q) (nI r) (nI c) fk a1 a2 a3 a4 n (nI (x + 1))) (hP : gv_bad a2 a1 a3 p q r x = true → post 0) :
    wX_staysBelow_3 post (nI p) (nI q) (nI r) (nI c) fk a1 a2 a3 a4 (n + 1) (nI x) := by
  refine pk_le c x (fun z => absurd z (by omega)) (fun _ => ?_)
  rw [nI_clamp (show p < 2 ^ 31 by omega)]
  refine ⟨pk_in p 10 hp, gv_and (show x < 10 by omega) hq hr (fun h => ?_) (fun h => ?_)⟩
  · exact gv_sb46 hp hq hr (by omega) (fun _ a b => hJ (gv_b3 h a b)) (fun t => hP (gv_t3 (fun s => t ⟨rfl, s.2⟩)))
  · exact gv_sb46 hp hq hr (by omega) (fun z _ _ => absurd z (by decide)) (fun _ => hP (gv_t3 (fun s => absurd (h.symm.trans s.1) (by decide))))
theorem gv_sb {post : Int32 → Prop} {fk : Int32} {a1 a2 a3 a4 : Nat → Int32} {c p q r : Nat} (hc : c ≤ 10) (hp : p < 10) (hq : q < 10) (hr : r < 10)
    (H : post (gv_stay a2 a1 a3 c p q r)) : wpX_staysBelow post (nI c, fk, a1, a2, a3, a4) (nI p) (nI q) (nI r) :=
  pk_loop (σ := Unit) (fun n i _ => wX_staysBelow_3 post (nI p) (nI q) (nI r) (nI c) fk a1 a2 a3 a4 n (nI i)) (fun i _ => ∀ x, x < i → gv_bad a2 a1 a3 p q r x = false) c 0 () (by omega) (fun x hx => absurd hx (by omega))
    (fun n _ h => pk_le c c (fun _ => by rw [gv_stay1 h] at H; exact H) (fun z => absurd z (by omega)))
    (fun n i _ hi h hw => gv_sb3 hc hp hq hr hi (fun b => hw () (lt_s h b)) (fun b => by rw [gv_stay0 hi b] at H; exact H))
end
section
/-- one step of learn: both tables at the i-th triple -/
def gv_step (A B : Nat → Int32) (c i : Nat) (s : (Nat → Int32) × (Nat → Int32)) : (Nat → Int32) × (Nat → Int32) :=
  (upd s.1 (gv_ix (i / (c * c)) (i / c % c) (i % c)) (gv_stay A B s.2 c (i / (c * c)) (i / c % c) (i % c)),
   upd s.2 (gv_ix (i / (c * c)) (i / c % c) (i % c)) (gv_stay B A (upd s.1 (gv_ix (i / (c * c)) (i / c % c) (i % c)) (gv_stay A B s.2 c (i / (c * c)) (i / c % c) (i % c))) c (i / (c * c)) (i / c % c) (i % c)))
/-- the tables after i steps -/
def gv_run (A B : Nat → Int32) (c : Nat) (s : (Nat → Int32) × (Nat → Int32)) : Nat → (Nat → Int32) × (Nat → Int32)
  | 0 => s
  | i + 1 => gv_step A B c i (gv_run A B c s i)
theorem gv_nb {x : Int32} (h : x = 0 ∨ x = 1) : narrow .boolean (.int x) = .int x := by
  rcases h with h | h
  · rw [h]
    rfl
  · rw [h]
    rfl
theorem gv_vb {x : Int32} (h : x = 0 ∨ x = 1) : vp_nar .boolean x = x := by
  rcases h with h | h
  · rw [h]
    rfl
  · rw [h]
    rfl
theorem gv_l15 {post : St2 → Prop} {A B a3 a4 : Nat → Int32} {c i n : Nat} (h1 : 1 ≤ c) (hc : c ≤ 10) (hi : i < c * c * c)
    (H : wX_learn_15 post (nI c) 1 n (nI (i + 1)) A B (gv_step A B c i (a3, a4)).1 (gv_step A B c i (a3, a4)).2) : wX_learn_15 post (nI c) 1 (n + 1) (nI i) A B a3 a4 := by
  have hcc : c * c ≤ 100 := Nat.mul_le_mul hc hc
  have hccc : c * c * c ≤ 1000 := Nat.mul_le_mul hcc hc
  have c0 : 0 < c * c := Nat.mul_pos h1 h1
  have hp : i / (c * c) < 10 := Nat.lt_of_lt_of_le (Nat.div_lt_of_lt_mul hi) hc
  have hq : i / c % c < 10 := Nat.lt_of_lt_of_le (Nat.mod_lt _ h1) hc
  have hr : i % c < 10 := Nat.lt_of_lt_of_le (Nat.mod_lt _ h1) hc
  have hk := gv_ix_lt hp hq hr
  have hd : i / c ≤ i := Nat.div_le_self i c
  have n0 : ¬ nI c = 0 := nI_ne0 h1 (by omega)
  have e2 : nI c * nI c = nI (c * c) := pk_mul c c
  have e3 : nI c * nI c * nI c = nI (c * c * c) := by rw [pk_mul, pk_mul]
  have ep : nI i / (nI c * nI c) = nI (i / (c * c)) := by rw [e2, pk_div (by omega) c0 (by omega)]
  have ed : nI i / nI c = nI (i / c) := pk_div (by omega) h1 (by omega)
  have eq : nI i / nI c - nI i / nI c / nI c * nI c = nI (i / c % c) := by rw [ed, pk_rem (by omega) h1 (by omega)]
  have er : nI i - nI i / nI c * nI c = nI (i % c) := pk_rem (by omega) h1 (by omega)
  refine pk_le (c * c * c) i (fun z => absurd z (by omega)) (fun _ => ⟨by rw [e2]; exact nI_ne0 c0 (by omega), nm_r ep ⟨n0, n0, nm_r eq ⟨n0, nm_r er ?_⟩⟩⟩) e3
  unfold wpX_cell
  dsimp only
  rw [gv_ixI, nI_clamp (by omega)]
  refine gv_sa hc hp hq hr ⟨vp_in_nI hk (by omega), nm_r (by rw [gv_vb (gv_stay01 _ _ _ _ _ _ _)]; rfl) (gv_sb hc hp hq hr ⟨vp_in_nI hk (by omega), nm_r (by rw [gv_vb (gv_stay01 _ _ _ _ _ _ _)]; rfl) (nm_r (nI_1 i) H)⟩)⟩
theorem gv_learn {post : St2 → Prop} {A B a3 a4 : Nat → Int32} {c : Nat} (h1 : 1 ≤ c) (hc : c ≤ 10)
    (H : post (nI c, 1, A, B, (gv_run A B c (a3, a4) (c * c * c)).1, (gv_run A B c (a3, a4) (c * c * c)).2)) : wpX_learn post (nI c, 0, A, B, a3, a4) := by
  have hcc : c * c ≤ 100 := Nat.mul_le_mul hc hc
  have hccc : c * c * c ≤ 1000 := Nat.mul_le_mul hcc hc
  refine br_t rfl (pk_loop (fun n i s => wX_learn_15 post (nI c) 1 n (nI i) A B s.1 s.2) (fun i s => s = gv_run A B c (a3, a4) i) (c * c * c) 0 (a3, a4) (Nat.zero_le _) rfl (fun n s h => ?_) (fun n i s hi h hw => ?_))
  · subst h
    exact pk_le (c * c * c) (c * c * c) (fun _ => H) (fun z => absurd z (by omega)) (by rw [pk_mul, pk_mul])
  · subst h
    exact gv_l15 h1 hc hi (hw (gv_step A B c i (gv_run A B c (a3, a4) i)) rfl)
theorem gv_run01 (A B : Nat → Int32) (c : Nat) (i : Nat) : (∀ k, (gv_run A B c (fun _ => 0, fun _ => 0) i).1 k = 0 ∨ (gv_run A B c (fun _ => 0, fun _ => 0) i).1 k = 1) := by
  induction i with
  | zero => exact fun k => Or.inl rfl
  | succ i ih =>
    intro k
    show upd _ _ _ k = 0 ∨ upd _ _ _ k = 1
    by_cases e : k = gv_ix (i / (c * c)) (i / c % c) (i % c)
    · rw [e, pk_us]
      exact gv_stay01 _ _ _ _ _ _ _
    · rw [pk_un e]
      exact ih k
end
section
/-- both tables, filled from nothing -/
def gv_T (A B : Nat → Int32) (c : Nat) : (Nat → Int32) × (Nat → Int32) := gv_run A B c (fun _ => 0, fun _ => 0) (c * c * c)
/-- the object: the tables unknown and empty, or known and filled -/
def gv_ok (c : Nat) (A B : Nat → Int32) (k : Int32) (a3 a4 : Nat → Int32) : Prop := (k = 0 ∧ a3 = (fun _ => 0) ∧ a4 = (fun _ => 0)) ∨ (k = 1 ∧ a3 = (gv_T A B c).1 ∧ a4 = (gv_T A B c).2)
theorem gv_ok1 {c : Nat} {A B : Nat → Int32} : gv_ok c A B 1 (gv_T A B c).1 (gv_T A B c).2 := Or.inr ⟨rfl, rfl, rfl⟩
theorem gv_lrn {post : St2 → Prop} {A B a3 a4 : Nat → Int32} {c : Nat} {k : Int32} (h1 : 1 ≤ c) (hc : c ≤ 10) (h : gv_ok c A B k a3 a4)
    (H : post (nI c, 1, A, B, (gv_T A B c).1, (gv_T A B c).2)) : wpX_learn post (nI c, k, A, B, a3, a4) := by
  rcases h with ⟨rfl, rfl, rfl⟩ | ⟨rfl, rfl, rfl⟩
  · exact gv_learn h1 hc H
  · exact br_f (by decide) H
/-- p is a position -/
def gv_h (c : Nat) (p : Int32) : Bool := decide (¬ p < 0) && decide (¬ nI c ≤ p)
theorem gv_hT {c : Nat} {p : Int32} (hc : c ≤ 10) (h : gv_h c p = true) : ∃ j, j < c ∧ p = nI j := by
  simp only [gv_h, Bool.and_eq_true, decide_eq_true_eq] at h
  rcases pk_ix p (n := c) (by omega) with z | z | z
  · exact absurd z h.1
  · exact absurd z h.2
  · exact z
theorem gv_hI {c j : Nat} (hc : c ≤ 10) (hj : j < c) : gv_h c (nI j) = true := by
  simp only [gv_h, Bool.and_eq_true, decide_eq_true_eq]
  exact ⟨nI_pos (by omega), nI_ge hj (by omega)⟩
theorem gv_hF {c : Nat} {p : Int32} (h : gv_h c p = false) : p < 0 ∨ (¬ p < 0 ∧ nI c ≤ p) := by
  by_cases h0 : p < 0
  · exact Or.inl h0
  · refine Or.inr ⟨h0, ?_⟩
    by_cases h2 : nI c ≤ p
    · exact h2
    · simp [gv_h, h0, h2] at h
theorem gv_has {post : Int32 → Prop} {c : Nat} {k p : Int32} {a1 a2 a3 a4 : Nat → Int32} (hc : c ≤ 10) (hT : gv_h c p = true → post 1) (hF : gv_h c p = false → post 0) : wpX_has post (nI c, k, a1, a2, a3, a4) p := by
  refine br_c (fun a => hF ?_) (fun a => br_c (fun b => hF ?_) (fun b => hT ?_))
  · simp [gv_h, a]
  · simp [gv_h, b]
  · simp [gv_h, a, b]
/-- what the two tables say of a cell -/
def gv_stand (T : (Nat → Int32) × (Nat → Int32)) (k : Nat) : Int32 := if T.1 k = 0 then (if T.2 k = 0 then 3 else 2) else (if T.2 k = 0 then 1 else 0)
theorem gv_standing {post : Int32 → Prop} {c k : Int32} {a1 a2 a3 a4 : Nat → Int32} {j : Nat} (hj : j < 1000) (H : post (gv_stand (a3, a4) j)) : wpX_standing post (c, k, a1, a2, a3, a4) (nI j) := by
  have hv : vp_in (nI j) 1000 := vp_in_nI hj (by omega)
  unfold wpX_standing
  dsimp only
  rw [nI_clamp (by omega)]
  unfold gv_stand at H
  dsimp only at H
  refine ⟨hv, br_c (fun a => ⟨hv, ?_⟩) (fun a => ⟨hv, ?_⟩)⟩
  · rw [if_pos a] at H
    refine br_c (fun b => ?_) (fun b => ?_)
    · rw [if_pos b] at H
      exact H
    · rw [if_neg b] at H
      exact H
  · rw [if_neg a] at H
    refine br_c (fun b => ?_) (fun b => ?_)
    · rw [if_pos b] at H
      exact H
    · rw [if_neg b] at H
      exact H
def gv_v1 (c : Nat) (T : (Nat → Int32) × (Nat → Int32)) (p q : Int32) : Int32 := bif gv_h c p && gv_h c q then gv_stand T (gv_ix p.toNatClampNeg 0 q.toNatClampNeg) else -1
theorem gv_compare {post : Int32 → St2 → Prop} {A B a3 a4 : Nat → Int32} {c : Nat} {k p q : Int32} (h1 : 1 ≤ c) (hc : c ≤ 10) (h : gv_ok c A B k a3 a4)
    (H : ∀ k' b3 b4, gv_ok c A B k' b3 b4 → post (gv_v1 c (gv_T A B c) p q) (nI c, k', A, B, b3, b4)) : wpX_compare post (nI c, k, A, B, a3, a4) p q := by
  have h00 : gv_h c 0 = true := gv_hI (j := 0) hc h1
  unfold wpX_compare wpX_compareSum
  dsimp only
  refine gv_has hc (fun hp => br_f (by decide) (gv_has hc (fun _ => br_f (by decide) (gv_has hc (fun hq => br_f (by decide) (gv_lrn h1 hc h ?_)) (fun hq => br_t rfl ?_))) (fun z => absurd (h00.symm.trans z) (by decide)))) (fun hp => br_t rfl ?_)
  · obtain ⟨i, hi, rfl⟩ := gv_hT hc hp
    obtain ⟨j, hj, rfl⟩ := gv_hT hc hq
    have e := H 1 _ _ gv_ok1
    simp only [gv_v1, hp, hq, Bool.and_self, cond_true, nI_clamp (show i < 2 ^ 31 by omega), nI_clamp (show j < 2 ^ 31 by omega)] at e
    unfold wpX_cell
    dsimp only
    rw [show ((nI i * 10 + 0) * 10 + nI j) = nI (gv_ix i 0 j) from gv_ixI i 0 j]
    exact gv_standing (gv_ix_lt (by omega) (by omega) (by omega)) e
  · have e := H k a3 a4 h
    simp only [gv_v1, hp, hq, Bool.and_false, cond_false] at e
    exact e
  · have e := H k a3 a4 h
    simp only [gv_v1, hp, Bool.false_and, cond_false] at e
    exact e
def gv_v2 (c : Nat) (T : (Nat → Int32) × (Nat → Int32)) (p s : Int32) : Int32 :=
  bif gv_h c p then (if s = 0 then (if T.2 (gv_ix p.toNatClampNeg 0 0) = 0 then 1 else 0) else if s = 1 then (if T.1 (gv_ix p.toNatClampNeg 0 0) = 0 then 1 else 0) else 0) else 0
theorem gv_w27 {post : Int32 → St2 → Prop} {A B a3 a4 : Nat → Int32} {c i : Nat} {k s : Int32} (h1 : 1 ≤ c) (hc : c ≤ 10) (hi : i < c) (h : gv_ok c A B k a3 a4)
    (H : post (if s = 0 then (if (gv_T A B c).2 (gv_ix i 0 0) = 0 then 1 else 0) else (if (gv_T A B c).1 (gv_ix i 0 0) = 0 then 1 else 0)) (nI c, 1, A, B, (gv_T A B c).1, (gv_T A B c).2)) :
    wX_winsSum_27 post (nI i) 0 s (nI c) k A B a3 a4 := by
  have hk : gv_ix i 0 0 < 1000 := gv_ix_lt (by omega) (by omega) (by omega)
  have hv : vp_in (nI (gv_ix i 0 0)) 1000 := vp_in_nI hk (by omega)
  unfold wX_winsSum_27
  refine gv_lrn h1 hc h ?_
  unfold wpX_cell
  dsimp only
  rw [show ((nI i * 10 + 0) * 10 + 0) = nI (gv_ix i 0 0) from gv_ixI i 0 0, nI_clamp (by omega)]
  refine br_c (fun a => ⟨hv, ?_⟩) (fun a => ⟨hv, ?_⟩)
  · rw [if_pos a] at H
    refine br_c (fun b => ?_) (fun b => ?_)
    · rw [if_pos b] at H
      exact H
    · rw [if_neg b] at H
      exact H
  · rw [if_neg a] at H
    refine br_c (fun b => ?_) (fun b => ?_)
    · rw [if_pos b] at H
      exact H
    · rw [if_neg b] at H
      exact H
theorem gv_if01 {c : Prop} [Decidable c] {x y : Int32} (hx : x = 0 ∨ x = 1) (hy : y = 0 ∨ y = 1) : (if c then x else y) = 0 ∨ (if c then x else y) = 1 := by
  by_cases h : c
  · rw [if_pos h]
    exact hx
  · rw [if_neg h]
    exact hy
theorem gv_wins {post : Int32 → St2 → Prop} {A B a3 a4 : Nat → Int32} {c : Nat} {k p s : Int32} (h1 : 1 ≤ c) (hc : c ≤ 10) (h : gv_ok c A B k a3 a4)
    (H : ∀ k' b3 b4, gv_ok c A B k' b3 b4 → post (gv_v2 c (gv_T A B c) p s) (nI c, k', A, B, b3, b4)) : wpX_wins post (nI c, k, A, B, a3, a4) p s := by
  have h00 : gv_h c 0 = true := gv_hI (j := 0) hc h1
  have l1 : (1 : Int32) = 0 ∨ (1 : Int32) = 1 := Or.inr rfl
  have l0 : (0 : Int32) = 0 ∨ (0 : Int32) = 1 := Or.inl rfl
  unfold wpX_wins wpX_winsSum
  dsimp only
  refine gv_has hc (fun hp => br_f (by decide) (gv_has hc (fun _ => br_f (by decide) ?_) (fun z => absurd (h00.symm.trans z) (by decide)))) (fun hp => br_t rfl ?_)
  · obtain ⟨i, hi, rfl⟩ := gv_hT hc hp
    refine br_c (fun s0 => ?_) (fun s0 => br_c (fun s1 => ?_) (fun s1 => ?_))
    · have e := H 1 _ _ gv_ok1
      simp only [gv_v2, hp, cond_true, nI_clamp (show i < 2 ^ 31 by omega)] at e
      rw [if_pos s0] at e
      refine gv_w27 h1 hc hi h ?_
      rw [if_pos s0]
      exact ⟨gv_nb (gv_if01 l1 l0), e⟩
    · have e := H 1 _ _ gv_ok1
      simp only [gv_v2, hp, cond_true, nI_clamp (show i < 2 ^ 31 by omega)] at e
      rw [if_neg s0, if_pos s1] at e
      refine gv_w27 h1 hc hi h ?_
      rw [if_neg s0]
      exact ⟨gv_nb (gv_if01 l1 l0), e⟩
    · have e := H k a3 a4 h
      simp only [gv_v2, hp, cond_true] at e
      rw [if_neg s0, if_neg s1] at e
      exact ⟨gv_nb l0, e⟩
  · have e := H k a3 a4 h
    simp only [gv_v2, hp, cond_false] at e
    exact ⟨gv_nb l0, e⟩
/-- the moves of the positions of s below q -/
def gv_nx (A B : Nat → Int32) (s : Int32) : Nat → Int32
  | 0 => 0
  | q + 1 => gv_nx A B s q ||| (bif gv_in s q then A q ||| B q else 0)
/-- what is reached, and the count, after i rounds -/
def gv_dp (A B : Nat → Int32) (c : Nat) (s : Int32) : Nat → Int32 × Int32
  | 0 => (s, 0)
  | i + 1 => (gv_nx A B (gv_dp A B c s i).1 c, (gv_dp A B c s i).2 + (if gv_nx A B (gv_dp A B c s i).1 c = 0 then 0 else 1))
theorem gv_d32 {post : Int32 → Prop} {J : Int32 → Int32 → Int32 → Prop} {A B a3 a4 : Nat → Int32} {c i : Nat} {k x2 x3 : Int32} (hc : c ≤ 10)
    (H : J (gv_nx A B x2 c) (x3 + (if gv_nx A B x2 c = 0 then 0 else 1)) (nI (i + 1))) : ∃ n, wX_depth_32 post J x2 x3 (nI i) (nI c) k A B a3 a4 n 0 0 := by
  refine pk_loop (fun n j s => wX_depth_32 post J x2 x3 (nI i) (nI c) k A B a3 a4 n s (nI j)) (fun j s => s = gv_nx A B x2 j) c 0 0 (by omega) rfl (fun n s h => ?_) (fun n j s hj h hw => ?_)
  · subst h
    refine pk_le c c (fun _ => br_c (fun e => nm_e (nm_r (nI_1 i) ?_)) (fun e => nm_e (nm_r (nI_1 i) ?_))) (fun z => absurd z (by omega))
    · rw [if_pos e] at H
      exact H
    · rw [if_neg e] at H
      exact H
  · subst h
    refine pk_le c j (fun z => absurd z (by omega)) (fun _ => br_c (fun e => br_t rfl (nm_r ?_ (nm_r (nI_1 j) (hw _ rfl)))) (fun e => br_f (by decide) ⟨pk_in j 10 (by omega), pk_in j 10 (by omega), nm_r ?_ (nm_r (nI_1 j) (hw _ rfl))⟩))
    · show _ = gv_nx A B x2 j ||| (bif gv_in x2 j then A j ||| B j else 0)
      rw [show gv_in x2 j = false by simp [gv_in, e]]
      rfl
    · show _ = gv_nx A B x2 j ||| (bif gv_in x2 j then A j ||| B j else 0)
      rw [show gv_in x2 j = true by simp [gv_in, e], nI_clamp (by omega)]
      rfl
def gv_v3 (c : Nat) (A B : Nat → Int32) (p : Int32) : Int32 := bif gv_h c p then (gv_dp A B c ((1 : Int32) <<< (p &&& 31)) 10).2 else -1
theorem gv_depth {post : Int32 → Prop} {A B a3 a4 : Nat → Int32} {c : Nat} {k p : Int32} (hc : c ≤ 10) (H : post (gv_v3 c A B p)) : wpX_depth post (nI c, k, A, B, a3, a4) p := by
  unfold wpX_depth
  dsimp only
  refine gv_has hc (fun hp => br_f (by decide) (nm_e ?_)) (fun hp => br_t rfl ?_)
  · simp only [gv_v3, hp, cond_true] at H
    refine pk_loop (fun n i s => wX_depth_19 post (nI c) k A B a3 a4 n s.1 s.2 (nI i)) (fun i s => s = gv_dp A B c ((1 : Int32) <<< (p &&& 31)) i) 10 0 ((1 : Int32) <<< (p &&& 31), 0) (by omega) rfl (fun n s h => ?_) (fun n i s hi h hw => ?_)
    · subst h
      exact pk_le 10 10 (fun _ => H) (fun z => absurd z (by omega))
    · subst h
      exact pk_le 10 i (fun z => absurd z (by omega)) (fun _ => gv_d32 hc (hw _ rfl))
  · simp only [gv_v3, hp, cond_false] at H
    exact H
theorem gv_ial {post : Int32 → Prop} {c k : Int32} {a1 a2 a3 a4 : Nat → Int32} {i j : Nat} (hi : i < 10) (hj : j < 100) (h : a3 (i * 100 + j) = 0 ∨ a3 (i * 100 + j) = 1) (H : post (a3 (i * 100 + j))) :
    wpX_isAtLeast post (c, k, a1, a2, a3, a4) (nI i) (nI j) := by
  have e : nI i * 100 + nI j = nI (i * 100 + j) := by
    show nI i * nI 100 + nI j = nI (i * 100 + j)
    rw [pk_mul, nI_add]
  unfold wpX_isAtLeast
  dsimp only
  rw [e, nI_clamp (by omega)]
  exact ⟨vp_in_nI (by omega) (by omega), gv_nb h, H⟩
/-- the first of the positions 0 and 1 that equals p -/
def gv_fst (T : Nat → Int32) (p : Nat) : Int32 := if p = 0 then 0 else if T 100 = 0 then 1 else if T 1 = 0 then 1 else 0
theorem gv_firstY {post : Int32 → St2 → Prop} {A B a3 a4 : Nat → Int32} {c i : Nat} {k : Int32} (h1 : 1 ≤ c) (hc : c ≤ 2) (hi : i < c) (h : gv_ok c A B k a3 a4)
    (H : post (gv_fst (gv_T A B c).1 i) (nI c, 1, A, B, (gv_T A B c).1, (gv_T A B c).2)) : wpX_first post (nI c, k, A, B, a3, a4) (nI i) := by
  have t : ∀ k, (gv_T A B c).1 k = 0 ∨ (gv_T A B c).1 k = 1 := gv_run01 A B c (c * c * c)
  have hcc : c ≤ 10 := by omega
  unfold wpX_first
  dsimp only
  refine gv_has hcc (fun _ => br_f (by decide) (gv_lrn h1 hcc h ?_)) (fun z => absurd ((gv_hI hcc hi).symm.trans z) (by decide))
  dsimp only
  rcases (show i = 0 ∨ i = 1 by omega) with rfl | rfl
  · exact ⟨1, br_t (by decide) H⟩
  · have t100 : (gv_T A B c).1 (1 * 100 + 0) = 0 ∨ (gv_T A B c).1 (1 * 100 + 0) = 1 := t 100
    have t1 : (gv_T A B c).1 (0 * 100 + 1) = 0 ∨ (gv_T A B c).1 (0 * 100 + 1) = 1 := t 1
    unfold gv_fst at H
    rw [if_neg (show ¬ (1 : Nat) = 0 by decide)] at H
    refine ⟨2, br_f (by decide) (gv_ial (i := 1) (j := 0) (by omega) (by omega) t100 (br_c (fun e => nm_r (e' := 1) rfl (br_t (by decide) ?_)) (fun e => gv_ial (i := 0) (j := 1) (by omega) (by omega) t1 (br_c (fun e2 => nm_r (e' := 1) rfl (br_t (by decide) ?_)) (fun e2 => ?_)))))⟩
    · rw [if_pos e] at H
      exact H
    · rw [if_neg e, if_pos e2] at H
      exact H
    · rw [if_neg e, if_neg e2] at H
      exact H
def gv_v4 (c : Nat) (T : Nat → Int32) (p : Int32) : Int32 := bif gv_h c p then gv_fst T p.toNatClampNeg else -1
theorem gv_first {post : Int32 → St2 → Prop} {A B a3 a4 : Nat → Int32} {c : Nat} {k p : Int32} (h1 : 1 ≤ c) (hc : c ≤ 2) (h : gv_ok c A B k a3 a4)
    (H : ∀ k' b3 b4, gv_ok c A B k' b3 b4 → post (gv_v4 c (gv_T A B c).1 p) (nI c, k', A, B, b3, b4)) : wpX_first post (nI c, k, A, B, a3, a4) p := by
  have hcc : c ≤ 10 := by omega
  by_cases hp : gv_h c p = true
  · obtain ⟨i, hi, rfl⟩ := gv_hT hcc hp
    have e := H 1 _ _ gv_ok1
    simp only [gv_v4, hp, cond_true, nI_clamp (show i < 2 ^ 31 by omega)] at e
    exact gv_firstY h1 hc hi h e
  · have e := H k a3 a4 h
    have hp' : gv_h c p = false := Bool.eq_false_iff.mpr hp
    simp only [gv_v4, hp', cond_false] at e
    unfold wpX_first
    dsimp only
    exact gv_has hcc (fun z => absurd z hp) (fun _ => br_t rfl e)
def gv_v5 (c : Nat) (T : Nat → Int32) : Int32 := if c = 1 then 1 else if gv_fst T 1 = 1 then 2 else 1
theorem gv_values {post : Int32 → St2 → Prop} {A B a3 a4 : Nat → Int32} {c : Nat} {k : Int32} (h1 : 1 ≤ c) (hc : c ≤ 2) (h : gv_ok c A B k a3 a4)
    (H : ∀ k' b3 b4, gv_ok c A B k' b3 b4 → post (gv_v5 c (gv_T A B c).1) (nI c, k', A, B, b3, b4)) : wpX_values post (nI c, k, A, B, a3, a4) := by
  have e := H 1 _ _ gv_ok1
  unfold wpX_values
  dsimp only
  rcases (show c = 1 ∨ c = 2 by omega) with rfl | rfl
  · exact ⟨2, br_f (by decide) (gv_firstY (i := 0) h1 hc (by omega) h (br_t rfl (nm_r (e' := 1) rfl (nm_r (e' := 1) rfl (br_t (by decide) e)))))⟩
  · unfold gv_v5 at e
    rw [if_neg (show ¬ (2 : Nat) = 1 by decide)] at e
    refine ⟨3, br_f (by decide) (gv_firstY (i := 0) h1 hc (by omega) h (br_t rfl (nm_r (e' := 1) rfl (nm_r (e' := 1) rfl (br_f (by decide) (gv_firstY (i := 1) h1 hc (by omega) gv_ok1 (br_c (fun z => nm_r (e' := 2) rfl (nm_r (e' := 2) rfl (br_t (by decide) ?_))) (fun z => nm_r (e' := 1) rfl (nm_r (e' := 2) rfl (br_t (by decide) ?_)))))))))) ⟩
    · rw [if_pos z] at e
      exact e
    · rw [if_neg z] at e
      exact e
end
section
/-- the moves of position 1 -/
def gv_A (l : Nat) : Nat → Int32 := upd (fun _ => 0) 1 (nI l)
theorem gv_i16 {l : Nat} (h : l < 2) : (nI l).toInt16.toInt32 = nI l := by
  rcases (show l = 0 ∨ l = 1 by omega) with rfl | rfl
  · decide
  · decide
theorem gv_set {post : Int32 → Prop} {k p : Int32} {a1 a2 a3 a4 : Nat → Int32} (hT : gv_h 2 p = true → post 1) (hF : gv_h 2 p = false → post 0) : wpX_isSet post (1, k, a1, a2, a3, a4) p := by
  have e : (1 : Int32) <<< ((1 : Int32) &&& 31) = nI 2 := by decide
  unfold wpX_isSet
  dsimp only
  rw [e]
  refine br_c (fun a => hF ?_) (fun a => br_c (fun b => hF ?_) (fun b => hT ?_))
  · simp [gv_h, a]
  · simp [gv_h, b]
  · simp [gv_h, a, b]
theorem gv_add {post : Int32 → St2 → Prop} {p q : Int32} {a3 a4 : Nat → Int32} (hN : (gv_h 2 p && gv_h 2 q) = false → post (-1) (1, 0, (fun _ => 0), (fun _ => 0), a3, a4))
    (hY : ∀ l r, l < 2 → r < 2 → p = nI l → q = nI r → post 1 (nI 2, 0, gv_A l, gv_A r, a3, a4)) : wpX_add post (1, 0, (fun _ => 0), (fun _ => 0), a3, a4) p q := by
  have v : vp_in 1 10 := vp_in_nI (n := 1) (by omega) (by omega)
  unfold wpX_add
  dsimp only
  refine gv_set (fun hp => br_f (by decide) (gv_set (fun hq => br_f (by decide) (br_t (by decide) ?_)) (fun hq => br_t rfl (hN (by rw [hq, Bool.and_false]))))) (fun hp => br_t rfl (hN (by rw [hp, Bool.false_and])))
  obtain ⟨l, hl, rfl⟩ := gv_hT (by omega) hp
  obtain ⟨r, hr, rfl⟩ := gv_hT (by omega) hq
  rw [gv_i16 hl, gv_i16 hr]
  exact ⟨v, nm_r (e' := gv_A l) rfl ⟨v, nm_r (e' := gv_A r) rfl (nm_r (e' := nI 2) rfl (hY l r hl hr rfl rfl))⟩⟩
/-- the calls behind add, in the law's order -/
theorem gv_calls {P : Int32 → Int32 → Int32 → Int32 → Int32 → Prop} {A B : Nat → Int32} {c : Nat} {p s q : Int32} (h1 : 1 ≤ c) (hc : c ≤ 2)
    (H : P (gv_v1 c (gv_T A B c) p q) (gv_v2 c (gv_T A B c) p s) (gv_v3 c A B p) (gv_v4 c (gv_T A B c).1 p) (gv_v5 c (gv_T A B c).1)) :
    wpX_compare (fun r1 u => match u with | (c1, k1, d1, d2, d3, d4) => (wpX_wins (fun r2 u => match u with | (c2, k2, e1, e2, e3, e4) => (wpX_depth (fun r3 => (wpX_first (fun r4 u => match u with | (c3, k3, g1, g2, g3, g4) => (wpX_values (fun r5 u => match u with | (c4, k4, m1, m2, m3, m4) => P r1 r2 r3 r4 r5) (c3, k3, g1, g2, g3, g4))) (c2, k2, e1, e2, e3, e4) p)) (c2, k2, e1, e2, e3, e4) p)) (c1, k1, d1, d2, d3, d4) p s)) (nI c, 0, A, B, (fun _ => 0), (fun _ => 0)) p q := by
  have hcc : c ≤ 10 := by omega
  refine gv_compare h1 hcc (Or.inl ⟨rfl, rfl, rfl⟩) (fun k1 b3 b4 o1 => ?_)
  dsimp only
  refine gv_wins h1 hcc o1 (fun k2 b3 b4 o2 => ?_)
  dsimp only
  refine gv_depth hcc ?_
  refine gv_first h1 hc o2 (fun k3 b3 b4 o3 => ?_)
  dsimp only
  exact gv_values h1 hc o3 (fun k4 b3 b4 o4 => H)
theorem gv_95 {post : Int32 → St0 → Prop} {mc ms kc ks c : Nat} {x0 x1 p s q x6 x7 x8 x9 x10 x11 x12 : Int32} (hc : c ≤ 10)
    (H : wL_lawOf_131 post mc ms x0 x1 p s q x6 x7 x8 x9 x10 x11 x12 (bif gv_h c p then 1 else 0) (bif gv_h c q then 1 else 0) kc ks) : wL_lawOf_95 post mc ms x0 x1 p s q x6 x7 x8 x9 x10 x11 x12 (nI c) kc ks := by
  have step : ∀ z : Int32, z = (bif gv_h c p then 1 else 0) → wL_lawOf_112 post mc ms x0 x1 p s q x6 x7 x8 x9 x10 x11 x12 (nI c) z kc ks := by
    intro z hz
    rw [← hz] at H
    refine br_c (fun a => ?_) (fun a => br_c (fun b => ?_) (fun b => ?_))
    · rw [show gv_h c q = false by simp [gv_h, a]] at H
      exact H
    · rw [show gv_h c q = false by simp [gv_h, b]] at H
      exact H
    · rw [show gv_h c q = true by simp [gv_h, a, b]] at H
      exact H
  refine br_c (fun a => step 0 ?_) (fun a => br_c (fun b => step 0 ?_) (fun b => step 1 ?_))
  · rw [show gv_h c p = false by simp [gv_h, a]]
    rfl
  · rw [show gv_h c p = false by simp [gv_h, b]]
    rfl
  · rw [show gv_h c p = true by simp [gv_h, a, b]]
    rfl
theorem gv_v1N {c : Nat} {T : (Nat → Int32) × (Nat → Int32)} {p q : Int32} (h : gv_h c p = false) : gv_v1 c T p q = -1 := by
  simp only [gv_v1, h, Bool.false_and, cond_false]
theorem gv_v1M {c : Nat} {T : (Nat → Int32) × (Nat → Int32)} {p q : Int32} (h : gv_h c q = false) : gv_v1 c T p q = -1 := by
  simp only [gv_v1, h, Bool.and_false, cond_false]
theorem gv_v2N {c : Nat} {T : (Nat → Int32) × (Nat → Int32)} {p s : Int32} (h : gv_h c p = false) : gv_v2 c T p s = 0 := by
  simp only [gv_v2, h, cond_false]
theorem gv_v2M {c : Nat} {T : (Nat → Int32) × (Nat → Int32)} {p s : Int32} (h0 : ¬ s = 0) (h1 : ¬ s = 1) : gv_v2 c T p s = 0 := by
  unfold gv_v2
  rw [if_neg h0, if_neg h1]
  cases gv_h c p
  · rfl
  · rfl
theorem gv_v3N {c : Nat} {A B : Nat → Int32} {p : Int32} (h : gv_h c p = false) : gv_v3 c A B p = -1 := by
  simp only [gv_v3, h, cond_false]
theorem gv_v4N {c : Nat} {T : Nat → Int32} {p : Int32} (h : gv_h c p = false) : gv_v4 c T p = -1 := by
  simp only [gv_v4, h, cond_false]
theorem gv_good {mc ms kc ks l r : Nat} {p s q : Int32} (hl : l < 2) (hr : r < 2) :
    wL_lawOf_95 (fun z _ => z = 1) mc ms (nI l) (nI r) p s q 1 (gv_v1 2 (gv_T (gv_A l) (gv_A r) 2) p q) (gv_v2 2 (gv_T (gv_A l) (gv_A r) 2) p s) (gv_v3 2 (gv_A l) (gv_A r) p) (gv_v4 2 (gv_T (gv_A l) (gv_A r) 2).1 p) (gv_v5 2 (gv_T (gv_A l) (gv_A r) 2).1) 1 (nI 2) kc ks := by
  refine gv_95 (by omega) ?_
  by_cases hp : gv_h 2 p = true
  · obtain ⟨i, hi, rfl⟩ := gv_hT (by omega) hp
    by_cases hq : gv_h 2 q = true
    · obtain ⟨j, hj, rfl⟩ := gv_hT (by omega) hq
      rw [hp, hq]
      by_cases s0 : s = 0
      · subst s0
        rcases (show l = 0 ∨ l = 1 by omega) with rfl | rfl <;> rcases (show r = 0 ∨ r = 1 by omega) with rfl | rfl <;> rcases (show i = 0 ∨ i = 1 by omega) with rfl | rfl <;> rcases (show j = 0 ∨ j = 1 by omega) with rfl | rfl <;>
          repeat (first | exact rfl | refine br_t (by decide +kernel) ?_ | refine br_f (by decide +kernel) ?_)
      · by_cases s1 : s = 1
        · subst s1
          rcases (show l = 0 ∨ l = 1 by omega) with rfl | rfl <;> rcases (show r = 0 ∨ r = 1 by omega) with rfl | rfl <;> rcases (show i = 0 ∨ i = 1 by omega) with rfl | rfl <;> rcases (show j = 0 ∨ j = 1 by omega) with rfl | rfl <;>
            repeat (first | exact rfl | refine br_t (by decide +kernel) ?_ | refine br_f (by decide +kernel) ?_)
        · rw [gv_v2M s0 s1]
          rcases (show l = 0 ∨ l = 1 by omega) with rfl | rfl <;> rcases (show r = 0 ∨ r = 1 by omega) with rfl | rfl <;> rcases (show i = 0 ∨ i = 1 by omega) with rfl | rfl <;> rcases (show j = 0 ∨ j = 1 by omega) with rfl | rfl <;>
            repeat (first | exact rfl | refine br_t (by first | assumption | decide +kernel) ?_ | refine br_f (by first | assumption | decide +kernel) ?_)
    · have hq' : gv_h 2 q = false := Bool.eq_false_iff.mpr hq
      rw [hp, hq', gv_v1M hq']
      by_cases s0 : s = 0
      · subst s0
        rcases (show l = 0 ∨ l = 1 by omega) with rfl | rfl <;> rcases (show r = 0 ∨ r = 1 by omega) with rfl | rfl <;> rcases (show i = 0 ∨ i = 1 by omega) with rfl | rfl <;>
          repeat (first | exact rfl | refine br_t (by decide +kernel) ?_ | refine br_f (by decide +kernel) ?_)
      · by_cases s1 : s = 1
        · subst s1
          rcases (show l = 0 ∨ l = 1 by omega) with rfl | rfl <;> rcases (show r = 0 ∨ r = 1 by omega) with rfl | rfl <;> rcases (show i = 0 ∨ i = 1 by omega) with rfl | rfl <;>
            repeat (first | exact rfl | refine br_t (by decide +kernel) ?_ | refine br_f (by decide +kernel) ?_)
        · rw [gv_v2M s0 s1]
          rcases (show l = 0 ∨ l = 1 by omega) with rfl | rfl <;> rcases (show r = 0 ∨ r = 1 by omega) with rfl | rfl <;> rcases (show i = 0 ∨ i = 1 by omega) with rfl | rfl <;>
            repeat (first | exact rfl | refine br_t (by first | assumption | decide +kernel) ?_ | refine br_f (by first | assumption | decide +kernel) ?_)
  · have hp' : gv_h 2 p = false := Bool.eq_false_iff.mpr hp
    rw [hp', gv_v1N hp', gv_v2N hp', gv_v3N hp', gv_v4N hp']
    rcases (show l = 0 ∨ l = 1 by omega) with rfl | rfl <;> rcases (show r = 0 ∨ r = 1 by omega) with rfl | rfl <;>
      repeat (first | exact rfl | refine br_t (by decide +kernel) ?_ | refine br_f (by decide +kernel) ?_)
theorem gv_poor {mc ms kc ks : Nat} {x0 x1 p s q : Int32} :
    wL_lawOf_95 (fun z _ => z = 1) mc ms x0 x1 p s q (-1) (gv_v1 1 (gv_T (fun _ => 0) (fun _ => 0) 1) p q) (gv_v2 1 (gv_T (fun _ => 0) (fun _ => 0) 1) p s) (gv_v3 1 (fun _ => 0) (fun _ => 0) p) (gv_v4 1 (gv_T (fun _ => 0) (fun _ => 0) 1).1 p) (gv_v5 1 (gv_T (fun _ => 0) (fun _ => 0) 1).1) 0 (nI 1) kc ks := by
  refine gv_95 (by omega) ?_
  by_cases hp : gv_h 1 p = true
  · obtain ⟨i, hi, rfl⟩ := gv_hT (by omega) hp
    have v2 : gv_v2 1 (gv_T (fun _ => 0) (fun _ => 0) 1) (nI i) s = 0 := by
      rcases (show i = 0 by omega) with rfl
      by_cases s0 : s = 0
      · subst s0
        decide +kernel
      · by_cases s1 : s = 1
        · subst s1
          decide +kernel
        · exact gv_v2M s0 s1
    rw [v2]
    by_cases hq : gv_h 1 q = true
    · obtain ⟨j, hj, rfl⟩ := gv_hT (by omega) hq
      rw [hp, hq]
      rcases (show i = 0 by omega) with rfl
      rcases (show j = 0 by omega) with rfl
      repeat (first | exact rfl | refine br_t (by decide +kernel) ?_ | refine br_f (by decide +kernel) ?_)
    · have hq' : gv_h 1 q = false := Bool.eq_false_iff.mpr hq
      rw [hp, hq', gv_v1M hq']
      rcases (show i = 0 by omega) with rfl
      repeat (first | exact rfl | refine br_t (by decide +kernel) ?_ | refine br_f (by decide +kernel) ?_)
  · have hp' : gv_h 1 p = false := Bool.eq_false_iff.mpr hp
    rw [hp', gv_v1N hp', gv_v2N hp', gv_v3N hp', gv_v4N hp']
    repeat (first | exact rfl | refine br_t (by decide +kernel) ?_ | refine br_f (by decide +kernel) ?_)
end
section
theorem gv_n01 {p : Int32} (h : gv_h 2 p = false) : ¬ p = 0 ∧ ¬ p = 1 := by
  constructor
  · intro z
    rw [z] at h
    exact absurd h (by decide)
  · intro z
    rw [z] at h
    exact absurd h (by decide)
theorem gv_lawOf (l r p s q : Int32) : wpL_lawOf (fun z _ => z = 1) 5 2026 () l r p s q := by
  unfold wpL_lawOf
  refine ⟨by omega, by omega, 4, 2020, by omega, by omega, ?_⟩
  unfold wpX_init
  dsimp only
  refine ⟨by omega, by omega, by omega, by omega, by omega, by omega, by omega, by omega, ?_⟩
  refine gv_add (fun h => ?_) (fun a b ha hb el er => ?_)
  · refine gv_calls (P := fun v1 v2 v3 v4 v5 => ((l = 0 → (wL_lawOf_69 (fun z _ => z = 1) 5 2026 l r p s q (-1) v1 v2 v3 v4 v5 (1 + 4) (6 + 2020))) ∧ (¬ l = 0 → (((l = 1 → (wL_lawOf_69 (fun z _ => z = 1) 5 2026 l r p s q (-1) v1 v2 v3 v4 v5 (1 + 4) (6 + 2020))) ∧ (¬ l = 1 → (wL_lawOf_82 (fun z _ => z = 1) 5 2026 l r p s q (-1) v1 v2 v3 v4 v5 (1 + 4) (6 + 2020)))))))) (c := 1) (by omega) (by omega) ?_
    by_cases hr : gv_h 2 r = true
    · have hl : gv_h 2 l = false := by
        rw [hr, Bool.and_true] at h
        exact h
      exact br_f (gv_n01 hl).1 (br_f (gv_n01 hl).2 (br_t rfl gv_poor))
    · have hr' := gv_n01 (Bool.eq_false_iff.mpr hr)
      exact br_c (fun _ => br_f hr'.1 (br_f hr'.2 (br_t rfl gv_poor))) (fun _ => br_c (fun _ => br_f hr'.1 (br_f hr'.2 (br_t rfl gv_poor))) (fun _ => br_t rfl gv_poor))
  · subst el er
    refine gv_calls (P := fun v1 v2 v3 v4 v5 => ((nI a = 0 → (wL_lawOf_69 (fun z _ => z = 1) 5 2026 (nI a) (nI b) p s q 1 v1 v2 v3 v4 v5 (1 + 4) (6 + 2020))) ∧ (¬ nI a = 0 → (((nI a = 1 → (wL_lawOf_69 (fun z _ => z = 1) 5 2026 (nI a) (nI b) p s q 1 v1 v2 v3 v4 v5 (1 + 4) (6 + 2020))) ∧ (¬ nI a = 1 → (wL_lawOf_82 (fun z _ => z = 1) 5 2026 (nI a) (nI b) p s q 1 v1 v2 v3 v4 v5 (1 + 4) (6 + 2020)))))))) (c := 2) (by omega) (by omega) ?_
    have g := gv_good (mc := 5) (ms := 2026) (kc := 1 + 4) (ks := 6 + 2020) (p := p) (s := s) (q := q) ha hb
    have g83 : ∀ {v1 v2 v3 v4 v5 : Int32}, wL_lawOf_95 (fun z _ => z = 1) 5 2026 (nI a) (nI b) p s q 1 v1 v2 v3 v4 v5 1 (nI 2) (1 + 4) (6 + 2020) → wL_lawOf_69 (fun z _ => z = 1) 5 2026 (nI a) (nI b) p s q 1 v1 v2 v3 v4 v5 (1 + 4) (6 + 2020) := by
      intro v1 v2 v3 v4 v5 H
      rcases (show b = 0 ∨ b = 1 by omega) with rfl | rfl
      · exact br_t (by decide) (br_f (by decide) H)
      · exact br_f (by decide) (br_t (by decide) (br_f (by decide) H))
    rcases (show a = 0 ∨ a = 1 by omega) with rfl | rfl
    · exact br_t (by decide) (g83 g)
    · exact br_f (by decide) (br_t (by decide) (g83 g))
theorem gv_cell {post : Int32 → Prop} {L : Nat} {xs : Nat → Int32} (n : Nat) (hn : n < 5) (hL : L ≤ 5) (H : ∀ v, post v) : wpL_cellAt post L xs () (nI n) :=
  pk_le L n (fun _ => H 0) (fun z => ⟨vp_in_nI z (by omega), H _⟩)
theorem i_vc (xs : Nat → Int32) (L : Nat) (hL : L ≤ 5) : wpL_law (fun r => r = 1) L xs := by
  unfold wpL_law
  exact gv_cell 0 (by omega) hL (fun a => gv_cell 1 (by omega) hL (fun b => gv_cell 2 (by omega) hL (fun c => gv_cell 3 (by omega) hL (fun d => gv_cell 4 (by omega) hL (fun e => ⟨5, 2026, by omega, by omega, gv_lawOf a b c d e⟩)))))
end

section
/-! ===== the picture: a chain of links as the list of their addresses ===== -/
/-- from the reference h the links of A are met in order, then null -/
def ch_ok (pn : Nat → Option Nat) : List Nat → Option Nat → Prop
  | [] => fun h => h = none
  | a :: l => fun h => h = some a ∧ ch_ok pn l (pn a)
/-- the last address of y :: R -/
def ch_last : List Nat → Nat → Nat
  | [] => fun y => y
  | z :: R => fun _ => ch_last R z
theorem ch_frame {pn pn' : Nat → Option Nat} (A : List Nat) : ∀ h : Option Nat, (∀ y, y ∈ A → pn' y = pn y) → ch_ok pn A h → ch_ok pn' A h := by
  induction A with
  | nil => exact fun h _ hc => hc
  | cons a l ih =>
    intro h hf hc
    refine ⟨hc.1, ?_⟩
    rw [hf a (List.mem_cons_self ..)]
    exact ih _ (fun y hy => hf y (List.mem_cons_of_mem _ hy)) hc.2
theorem ch_last_in (R : List Nat) : ∀ y, ch_last R y ∈ y :: R := by
  induction R with
  | nil => exact fun y => List.mem_cons_self ..
  | cons z R ih => exact fun y => List.mem_cons_of_mem _ (ih z)
/-- a new link hung on the last one -/
theorem ch_put {pn : Nat → Option Nat} {q : Nat} (hq0 : pn q = none) (R : List Nat) : ∀ y, ch_ok pn (y :: R) (some y) → (y :: R).Nodup → q ∉ y :: R → ch_ok (va_up pn (ch_last R y) (some q)) ((y :: R) ++ [q]) (some y) := by
  induction R with
  | nil =>
    intro y _ _ hq
    have hne : q ≠ y := fun e => hq (e ▸ List.mem_cons_self ..)
    refine ⟨rfl, va_up_self _ _ _, ?_⟩
    show va_up pn y (some q) q = none
    rw [va_up_ne _ _ hne]
    exact hq0
  | cons z R ih =>
    intro y hc hn hq
    have hn2 := List.nodup_cons.mp hn
    have hz : pn y = some z := hc.2.1
    have hy : y ≠ ch_last R z := fun e => hn2.1 (e ▸ ch_last_in R z)
    refine ⟨rfl, ?_⟩
    show ch_ok (va_up pn (ch_last R z) (some q)) ((z :: R) ++ [q]) (va_up pn (ch_last R z) (some q) y)
    rw [va_up_ne _ _ hy, hz]
    have hc2 : ch_ok pn (z :: R) (some z) := by
      have t := hc.2
      rw [hz] at t
      exact t
    exact ih z hc2 hn2.2 (fun e => hq (List.mem_cons_of_mem _ e))
/-- a chain is what it was when a link that isn't in it is made -/
theorem ch_made {pn : Nat → Option Nat} {q : Nat} {A : List Nat} {h v w : Option Nat} (hc : ch_ok pn A h) (hq : q ∉ A) : ch_ok (va_up (va_up pn q v) q w) A h :=
  ch_frame A h (fun y hy => by
    have hne : y ≠ q := fun e => hq (e ▸ hy)
    rw [va_up_ne _ _ hne, va_up_ne _ _ hne]) hc
/-- the same, with the link made just before (its two stores) -/
theorem ch_hang {pn : Nat → Option Nat} {q y : Nat} {R : List Nat} (hc : ch_ok pn (y :: R) (some y)) (hn : (y :: R).Nodup) (hq : q ∉ y :: R) :
    ch_ok (va_up (va_up (va_up pn q none) q none) (ch_last R y) (some q)) ((y :: R) ++ [q]) (some y) :=
  ch_put (by rw [va_up_self]) R y (ch_made hc hq) hn hq
/-- the chain's end, and what the store leaves alone -/
theorem ch_off {pn : Nat → Option Nat} {q y u : Nat} {R : List Nat} (hu : u ∉ y :: R) (hq : u ≠ q) : va_up (va_up (va_up pn q none) q none) (ch_last R y) (some q) u = pn u := by
  have h1 : u ≠ ch_last R y := fun e => hu (e ▸ ch_last_in R y)
  rw [va_up_ne _ _ h1, va_up_ne _ _ hq, va_up_ne _ _ hq]
theorem ch_val {pv : Nat → Int32} {q u : Nat} {v x : Int32} (hq : u ≠ q) : va_up (va_up pv q v) q x u = pv u := by
  rw [va_up_ne _ _ hq, va_up_ne _ _ hq]
theorem ch_next {pn : Nat → Option Nat} {y z : Nat} {R : List Nat} (hc : ch_ok pn (y :: z :: R) (some y)) : pn y = some z ∧ ch_ok pn (z :: R) (some z) := by
  have hz : pn y = some z := hc.2.1
  have t := hc.2
  rw [hz] at t
  exact ⟨hz, t⟩
end
section
/-! ===== addAtEnd of the class and of its twin, one lemma a method, the post general ===== -/
section METHODS
variable {post : Int32 → St3 → Prop} {mc ms kc ks q : Nat} {h : Option Nat} {sz x : Int32} {LP : List Nat} {pv : Nat → Int32} {pn : Nat → Option Nat}
theorem ch_x5_30 (R : List Nat) : ∀ y, ch_ok pn (y :: R) (some y) → (∀ u, u ∈ y :: R → u ∈ LP) → post (sz + 1) (h, sz + 1, LP, pv, va_up pn (ch_last R y) (some q)) →
    wX5_addAtEnd_30 post mc ms q kc ks h sz LP pv pn (R.length + 1) y := by
  induction R with
  | nil =>
    intro y hc hA H
    exact ⟨hA y (List.mem_cons_self ..), co_none (nm_e H) hc.2⟩
  | cons z R ih =>
    intro y hc hA H
    obtain ⟨hz, hc2⟩ := ch_next hc
    exact ⟨hA y (List.mem_cons_self ..), co_some z (ih z hc2 (fun u hu => hA u (List.mem_cons_of_mem _ hu)) H) hz⟩
theorem ch_x5 {A : List Nat} (hm : 1 ≤ mc) (hs : 2 ≤ ms) (hc : ch_ok pn A h) (hn : A.Nodup) (hA : ∀ u, u ∈ A → u ∈ LP)
    (H : ∀ (q : Nat) (h' : Option Nat) (pv' : Nat → Int32) (pn' : Nat → Option Nat), q ∉ LP → ch_ok pn' (A ++ [q]) h' → (∀ u, u ∉ A → u ≠ q → pn' u = pn u) → (∀ u, u ≠ q → pv' u = pv u) → pv' q = x → post (sz + 1) (h', sz + 1, LP ++ [q], pv', pn')) :
    wpX5_addAtEnd post mc ms (h, sz, LP, pv, pn) x := by
  refine ⟨hm, hs, fun q hq => ⟨cm_last LP q, ?_⟩⟩
  have hqA : q ∉ A := fun e => hq (hA q e)
  cases A with
  | nil =>
    have hh : h = none := hc
    refine co_none (nm_e (H q _ _ _ hq ⟨rfl, ?_⟩ ?_ ?_ ?_)) hh
    · show va_up (va_up pn q none) q none q = none
      rw [va_up_self]
    · intro u _ hu
      rw [va_up_ne _ _ hu, va_up_ne _ _ hu]
    · exact fun u hu => ch_val hu
    · exact va_up_self _ _ _
  | cons y R =>
    have hh : h = some y := hc.1
    have hc1 : ch_ok pn (y :: R) (some y) := ⟨rfl, hc.2⟩
    refine co_some y ⟨R.length + 1, ch_x5_30 R y (ch_made hc1 hqA) (fun u hu => List.mem_append_left _ (hA u hu)) (H q _ _ _ hq ?_ ?_ ?_ ?_)⟩ hh
    · rw [hh]
      exact ch_hang hc1 hn hqA
    · exact fun u hu hu2 => ch_off hu hu2
    · exact fun u hu => ch_val hu
    · exact va_up_self _ _ _
theorem ch_links_7 {post : Int32 → Prop} (R : List Nat) : ∀ (y i : Nat), ch_ok pn (y :: R) (some y) → (∀ u, u ∈ y :: R → u ∈ LP) → post (nI (i + (R.length + 1))) →
    wX6_linksOf_7 post h sz LP pv pn (R.length + 2) (.inr (nI i, y)) := by
  induction R with
  | nil =>
    intro y i hc hA H
    exact nm_r (nI_1 i) ⟨hA y (List.mem_cons_self ..), co_none H hc.2⟩
  | cons z R ih =>
    intro y i hc hA H
    obtain ⟨hz, hc2⟩ := ch_next hc
    have e : i + ((z :: R).length + 1) = i + 1 + (R.length + 1) := by
      show i + (R.length + 1 + 1) = _
      omega
    rw [e] at H
    exact nm_r (nI_1 i) ⟨hA y (List.mem_cons_self ..), co_some z (ih z (i + 1) hc2 (fun u hu => hA u (List.mem_cons_of_mem _ hu)) H) hz⟩
theorem ch_links {post : Int32 → Prop} {A : List Nat} (hc : ch_ok pn A h) (hA : ∀ u, u ∈ A → u ∈ LP) (H : post (nI A.length)) : wpX6_linksOf post (h, sz, LP, pv, pn) := by
  cases A with
  | nil =>
    have hh : h = none := hc
    exact co_none ⟨1, H⟩ hh
  | cons y R =>
    have hh : h = some y := hc.1
    have hc1 : ch_ok pn (y :: R) (some y) := ⟨rfl, hc.2⟩
    have H' : post (nI (0 + (R.length + 1))) := by
      rw [Nat.zero_add]
      exact H
    exact co_some y ⟨R.length + 2, ch_links_7 R y 0 hc1 hA H'⟩ hh
theorem ch_x6_36 {n : Nat} (hn : n < 2 ^ 31) (R : List Nat) : ∀ (y i : Nat), R.length + i = n → ch_ok pn (y :: R) (some y) → (∀ u, u ∈ y :: R → u ∈ LP) → post (sz + 1) (h, sz + 1, LP, pv, va_up pn (ch_last R y) (some q)) →
    wX6_addAtEnd_36 post mc ms (R.length + 1) (.inr (nI n, nI i, q, y, kc, ks, h, sz, LP, pv, pn)) := by
  induction R with
  | nil =>
    intro y i hi hc hA H
    have hi' : 0 + i = n := hi
    exact pk_le n i (fun _ => ⟨hA y (List.mem_cons_self ..), nm_e H⟩) (fun z => absurd z (by omega))
  | cons z R ih =>
    intro y i hi hc hA H
    have hi' : R.length + 1 + i = n := hi
    obtain ⟨hz, hc2⟩ := ch_next hc
    exact pk_le n i (fun z => absurd z (by omega)) (fun _ => ⟨hA y (List.mem_cons_self ..), co_some z (nm_r (nI_1 i) (ih z (i + 1) (by omega) hc2 (fun u hu => hA u (List.mem_cons_of_mem _ hu)) H)) hz⟩)
theorem ch_x6 {A : List Nat} (hl : A.length < 2 ^ 31) (hm : 1 ≤ mc) (hs : 2 ≤ ms) (hc : ch_ok pn A h) (hn : A.Nodup) (hA : ∀ u, u ∈ A → u ∈ LP)
    (H : ∀ (q : Nat) (h' : Option Nat) (pv' : Nat → Int32) (pn' : Nat → Option Nat), q ∉ LP → ch_ok pn' (A ++ [q]) h' → (∀ u, u ∉ A → u ≠ q → pn' u = pn u) → (∀ u, u ≠ q → pv' u = pv u) → pv' q = x → post (sz + 1) (h', sz + 1, LP ++ [q], pv', pn')) :
    wpX6_addAtEnd post mc ms (h, sz, LP, pv, pn) x := by
  refine ch_links hc hA ⟨hm, hs, fun q hq => ⟨cm_last LP q, ?_⟩⟩
  have hqA : q ∉ A := fun e => hq (hA q e)
  cases A with
  | nil =>
    refine br_t rfl (nm_e (H q _ _ _ hq ⟨rfl, ?_⟩ ?_ ?_ ?_))
    · show va_up (va_up pn q none) q none q = none
      rw [va_up_self]
    · intro u _ hu
      rw [va_up_ne _ _ hu, va_up_ne _ _ hu]
    · exact fun u hu => ch_val hu
    · exact va_up_self _ _ _
  | cons y R =>
    have hl' : R.length + 1 < 2 ^ 31 := hl
    have hh : h = some y := hc.1
    have hc1 : ch_ok pn (y :: R) (some y) := ⟨rfl, hc.2⟩
    refine br_f (nI_ne0 (Nat.succ_pos _) hl') (co_some y ⟨R.length + 1, ch_x6_36 (n := R.length + 1) hl' R y 1 rfl (ch_made hc1 hqA) (fun u hu => List.mem_append_left _ (hA u hu)) (H q _ _ _ hq ?_ ?_ ?_ ?_)⟩ hh)
    · rw [hh]
      exact ch_hang hc1 hn hqA
    · exact fun u hu hu2 => ch_off hu hu2
    · exact fun u hu => ch_val hu
    · exact va_up_self _ _ _
end METHODS
end
section
/-! ===== the law's loops ===== -/
/-- the two chains at the law's first loop: i links each, the same values, no link in both -/
def ch_I (i : Nat) (h6 h15 : Option Nat) (LP : List Nat) (pv : Nat → Int32) (pn : Nat → Option Nat) : Prop := ∃ A B : List Nat, A.length = i ∧ B.length = i ∧ ch_ok pn A h6 ∧ ch_ok pn B h15 ∧ A.map pv = B.map pv ∧ A.Nodup ∧ B.Nodup ∧ (∀ u, u ∈ A → u ∉ B) ∧ (∀ u, u ∈ A → u ∈ LP) ∧ (∀ u, u ∈ B → u ∈ LP)
theorem ch_I0 {LP : List Nat} {pv : Nat → Int32} {pn : Nat → Option Nat} : ch_I 0 none none LP pv pn :=
  ⟨[], [], rfl, rfl, rfl, rfl, rfl, List.nodup_nil, List.nodup_nil, (fun _ h => nomatch h), (fun _ h => nomatch h), (fun _ h => nomatch h)⟩
theorem ch_mapv {pv pv' : Nat → Int32} {A : List Nat} (h : ∀ u, u ∈ A → pv' u = pv u) : A.map pv' = A.map pv :=
  List.map_congr_left (fun u hu => h u hu)
theorem ch_step {i q r : Nat} {h6 h15 : Option Nat} {LP : List Nat} {pv : Nat → Int32} {pn : Nat → Option Nat} {v : Int32} (h : ch_I i h6 h15 LP pv pn) (hq : q ∉ LP) (hr : r ∉ LP ++ [q]) :
    ch_I (i + 1) (some q) (some r) ((LP ++ [q]) ++ [r]) (va_up (va_up (va_up (va_up pv q 0) q v) r 0) r v) (va_up (va_up (va_up (va_up pn q none) q h6) r none) r h15) := by
  obtain ⟨A, B, lA, lB, cA, cB, hv, nA, nB, dj, iA, iB⟩ := h
  have hrL : r ∉ LP := fun e => hr (List.mem_append_left _ e)
  have hrq : r ≠ q := fun e => hr (e ▸ cm_last LP q)
  have hqr : q ≠ r := fun e => hrq e.symm
  have qA : ∀ u, u ∈ LP → u ≠ q := fun u hu e => hq (e ▸ hu)
  have rA : ∀ u, u ∈ LP → u ≠ r := fun u hu e => hrL (e ▸ hu)
  have fn : ∀ u, u ∈ LP → va_up (va_up (va_up (va_up pn q none) q h6) r none) r h15 u = pn u := fun u hu => by
    rw [va_up_ne _ _ (rA u hu), va_up_ne _ _ (rA u hu), va_up_ne _ _ (qA u hu), va_up_ne _ _ (qA u hu)]
  have fv : ∀ u, u ∈ LP → va_up (va_up (va_up (va_up pv q 0) q v) r 0) r v u = pv u := fun u hu => by
    rw [va_up_ne _ _ (rA u hu), va_up_ne _ _ (rA u hu), va_up_ne _ _ (qA u hu), va_up_ne _ _ (qA u hu)]
  have nq : va_up (va_up (va_up (va_up pn q none) q h6) r none) r h15 q = h6 := by
    rw [va_up_ne _ _ hqr, va_up_ne _ _ hqr, va_up_self]
  have vq : va_up (va_up (va_up (va_up pv q 0) q v) r 0) r v q = v := by
    rw [va_up_ne _ _ hqr, va_up_ne _ _ hqr, va_up_self]
  have nr : va_up (va_up (va_up (va_up pn q none) q h6) r none) r h15 r = h15 := va_up_self _ _ _
  have vr : va_up (va_up (va_up (va_up pv q 0) q v) r 0) r v r = v := va_up_self _ _ _
  refine ⟨q :: A, r :: B, congrArg (· + 1) lA, congrArg (· + 1) lB, ⟨rfl, ?_⟩, ⟨rfl, ?_⟩, ?_, ?_, ?_, ?_, ?_, ?_⟩
  · rw [nq]
    exact ch_frame A h6 (fun u hu => fn u (iA u hu)) cA
  · rw [nr]
    exact ch_frame B h15 (fun u hu => fn u (iB u hu)) cB
  · rw [List.map_cons, List.map_cons, vq, vr, ch_mapv (fun u hu => fv u (iA u hu)), ch_mapv (fun u hu => fv u (iB u hu)), hv]
  · exact List.nodup_cons.mpr ⟨fun e => hq (iA q e), nA⟩
  · exact List.nodup_cons.mpr ⟨fun e => hrL (iB r e), nB⟩
  · intro u hu hu2
    rcases List.mem_cons.mp hu with e | e
    · rcases List.mem_cons.mp hu2 with e2 | e2
      · exact hqr (e.symm.trans e2)
      · exact hq (e ▸ iB u e2)
    · rcases List.mem_cons.mp hu2 with e2 | e2
      · exact hrL (e2 ▸ iA u e)
      · exact dj u e e2
  · intro u hu
    rcases List.mem_cons.mp hu with e | e
    · rw [e]
      exact List.mem_append_left _ (cm_last LP q)
    · exact List.mem_append_left _ (List.mem_append_left _ (iA u e))
  · intro u hu
    rcases List.mem_cons.mp hu with e | e
    · rw [e]
      exact cm_last _ r
    · exact List.mem_append_left _ (List.mem_append_left _ (iB u e))
theorem ch_cons (A : List Nat) (q : Nat) : ∃ (y : Nat) (R : List Nat), A ++ [q] = y :: R ∧ R.length = A.length := by
  cases A with
  | nil => exact ⟨q, [], rfl, rfl⟩
  | cons a l => exact ⟨a, l ++ [q], rfl, by simp⟩
section LAW
variable {post : Int32 → St1 → Prop} {mc ms kc ks : Nat} {LP : List Nat} {pv : Nat → Int32} {pn : Nat → Option Nat} {n : Nat}
theorem ch_166 (hn : n ≤ 7) (H : post 1 (LP, pv, pn)) (R : List Nat) : ∀ (S : List Nat) (y z i : Nat), R.length = S.length → i + R.length = n → ch_ok pn (y :: R) (some y) → ch_ok pn (z :: S) (some z) → (y :: R).map pv = (z :: S).map pv → (∀ u, u ∈ y :: R → u ∈ LP) → (∀ u, u ∈ z :: S → u ∈ LP) →
    wL_lawOf_166 post mc ms (R.length + 2) (.inr (.inr (.inr (nI n, nI i, y, z, kc, ks, LP, pv, pn)))) := by
  induction R with
  | nil =>
    intro S y z i hl hi cA cB hv iA iB
    have hi' : i + 0 = n := hi
    cases S with
    | cons _ _ => exact absurd hl (by simp)
    | nil =>
      exact pk_lt n i (fun t => absurd t (by omega)) (fun _ => ⟨iA y (List.mem_cons_self ..), iB z (List.mem_cons_self ..), br_t (List.cons.inj hv).1 (co_none (co_none (nm_r (nI_1 i) (pk_lt n (i + 1) (fun _ => H) (fun t => absurd t (by omega)))) cB.2) cA.2)⟩)
  | cons y' R ih =>
    intro S y z i hl hi cA cB hv iA iB
    have hi' : i + (R.length + 1) = n := hi
    cases S with
    | nil => exact absurd hl (by simp)
    | cons z' S =>
      obtain ⟨ey, cA2⟩ := ch_next cA
      obtain ⟨ez, cB2⟩ := ch_next cB
      exact pk_lt n i (fun t => absurd t (by omega)) (fun _ => ⟨iA y (List.mem_cons_self ..), iB z (List.mem_cons_self ..), br_t (List.cons.inj hv).1 (co_some y' (co_some z' (nm_r (nI_1 i) (ih S y' z' (i + 1) (Nat.succ.inj hl) (by omega) cA2 cB2 (List.cons.inj hv).2 (fun u hu => iA u (List.mem_cons_of_mem _ hu)) (fun u hu => iB u (List.mem_cons_of_mem _ hu)))) ez) ey)⟩)
theorem ch_101 {x3 z0 s6 s15 : Int32} {h6 h15 : Option Nat} (hn : n ≤ 7) (hI : ch_I n h6 h15 LP pv pn) (hk : kc + 2 ≤ mc) (hs : ks + 4 ≤ ms) (H : ∀ s, post 1 s) :
    wL_lawOf_101 post mc ms x3 (nI n) z0 kc ks h6 s6 h15 s15 LP pv pn := by
  obtain ⟨A, B, lA, lB, cA, cB, hv, nA, nB, dj, iA, iB⟩ := hI
  refine ⟨1, 2, by omega, by omega, ch_x5 (A := A) (Nat.le_refl _) (Nat.le_refl _) cA nA iA ?_⟩
  intro q h' pv' pn' hq c1 f1 v1 w1
  have qB : q ∉ B := fun e => hq (iB q e)
  have cB1 : ch_ok pn' B h15 := ch_frame B h15 (fun u hu => f1 u (fun e => dj u e hu) (fun e => qB (e ▸ hu))) cB
  refine ⟨1, 2, by omega, by omega, ch_x6 (A := B) (by omega) (Nat.le_refl _) (Nat.le_refl _) cB1 nB (fun u hu => List.mem_append_left _ (iB u hu)) ?_⟩
  intro r h'' pv'' pn'' hr c2 f2 v2 w2
  have hrL : r ∉ LP := fun e => hr (List.mem_append_left _ e)
  have hrq : r ≠ q := fun e => hr (e ▸ cm_last LP q)
  have hqr : q ≠ r := fun e => hrq e.symm
  have qA : ∀ u, u ∈ LP → u ≠ q := fun u hu e => hq (e ▸ hu)
  have rA : ∀ u, u ∈ LP → u ≠ r := fun u hu e => hrL (e ▸ hu)
  have cA2 : ch_ok pn'' (A ++ [q]) h' := by
    refine ch_frame _ h' (fun u hu => ?_) c1
    rcases List.mem_append.mp hu with e | e
    · exact f2 u (dj u e) (rA u (iA u e))
    · have e' : u = q := List.mem_singleton.mp e
      rw [e']
      exact f2 q qB hqr
  have hv2 : (A ++ [q]).map pv'' = (B ++ [r]).map pv'' := by
    have ea : A.map pv'' = A.map pv := ch_mapv (fun u hu => by rw [v2 u (rA u (iA u hu)), v1 u (qA u (iA u hu))])
    have eb : B.map pv'' = B.map pv := ch_mapv (fun u hu => by rw [v2 u (rA u (iB u hu)), v1 u (qA u (iB u hu))])
    have eq : pv'' q = x3 := by rw [v2 q hqr, w1]
    rw [List.map_append, List.map_append, ea, eb, hv, List.map_singleton, List.map_singleton, eq, w2]
  have iA2 : ∀ u, u ∈ A ++ [q] → u ∈ (LP ++ [q]) ++ [r] := fun u hu => by
    rcases List.mem_append.mp hu with e | e
    · exact List.mem_append_left _ (List.mem_append_left _ (iA u e))
    · exact List.mem_append_left _ (List.mem_append_right _ e)
  have iB2 : ∀ u, u ∈ B ++ [r] → u ∈ (LP ++ [q]) ++ [r] := fun u hu => by
    rcases List.mem_append.mp hu with e | e
    · exact List.mem_append_left _ (List.mem_append_left _ (iB u e))
    · exact List.mem_append_right _ e
  obtain ⟨y, R, eA, lR⟩ := ch_cons A q
  obtain ⟨z, S, eB, lS⟩ := ch_cons B r
  rw [eA] at cA2 hv2 iA2
  rw [eB] at c2 hv2 iB2
  have hy : h' = some y := cA2.1
  have hz : h'' = some z := c2.1
  exact br_t rfl (br_t rfl (co_some y (co_some z ⟨R.length + 2, ch_166 hn (H _) R S y z 0 (by omega) (by omega) ⟨rfl, cA2.2⟩ ⟨rfl, c2.2⟩ hv2 iA2 iB2⟩ hz) hy))
end LAW
section LOOP
variable {post : Int32 → St1 → Prop} {mc ms n : Nat} {x0 x1 x2 x3 s6 s15 : Int32}
theorem ch_27 (hn : n ≤ 7) (H : ∀ s, post 1 s) (k : Nat) : ∀ (i kc ks : Nat) (h6 h15 : Option Nat) (LP : List Nat) (pv : Nat → Int32) (pn : Nat → Option Nat), i + k = n → kc + 2 * k + 2 ≤ mc → ks + 4 * k + 4 ≤ ms → ch_I i h6 h15 LP pv pn →
    wL_lawOf_27 post mc ms x0 x1 x2 x3 (nI n) (k + 1) (nI i) kc ks h6 s6 h15 s15 LP pv pn := by
  induction k with
  | zero =>
    intro i kc ks h6 h15 LP pv pn hi hk hs hI
    have e : i = n := by omega
    rw [e] at hI
    exact pk_le n i (fun _ => br_c (fun _ => ch_101 hn hI (by omega) (by omega) H) (fun _ => ch_101 hn hI (by omega) (by omega) H)) (fun z => absurd z (by omega))
  | succ k ih =>
    intro i kc ks h6 h15 LP pv pn hi hk hs hI
    refine pk_le n i (fun z => absurd z (by omega)) (fun _ => nm_e ⟨by omega, by omega, fun q hq => ?_⟩)
    cases h6 with
    | none =>
      refine co_none ⟨cm_last LP q, by omega, by omega, fun r hr => ?_⟩
      cases h15 with
      | none => exact co_none ⟨cm_last _ r, nm_r (nI_1 i) (ih (i + 1) _ _ _ _ _ _ _ (by omega) (by omega) (by omega) (ch_step hI hq hr))⟩
      | some z => exact co_some z ⟨cm_last _ r, nm_r (nI_1 i) (ih (i + 1) _ _ _ _ _ _ _ (by omega) (by omega) (by omega) (ch_step hI hq hr))⟩
    | some y =>
      refine co_some y ⟨cm_last LP q, by omega, by omega, fun r hr => ?_⟩
      cases h15 with
      | none => exact co_none ⟨cm_last _ r, nm_r (nI_1 i) (ih (i + 1) _ _ _ _ _ _ _ (by omega) (by omega) (by omega) (ch_step hI hq hr))⟩
      | some z => exact co_some z ⟨cm_last _ r, nm_r (nI_1 i) (ih (i + 1) _ _ _ _ _ _ _ (by omega) (by omega) (by omega) (ch_step hI hq hr))⟩
end LOOP
end
section
/-! ===== the law ===== -/
theorem ch_lawOf {post : Int32 → St1 → Prop} (p0 p1 p2 p3 : Int32) (H : ∀ s, post 1 s) : wpL_lawOf post 27 432 ([], (fun _ => 0), (fun _ => none)) p0 p1 p2 p3 := by
  obtain ⟨j, hj, e⟩ := pk_andE p2 (m := 7) 3 (by decide)
  have hj7 : j ≤ 7 := by omega
  intro x4 ex
  rw [e] at ex
  subst ex
  exact ⟨by decide, by decide, by decide, by decide, j + 1, ch_27 hj7 H j 0 2 4 none none [] _ _ (by omega) (by omega) (by omega) ch_I0⟩
theorem ch_cell {post : Int32 → Prop} {L : Nat} {xs : Nat → Int32} (hL : L ≤ 4) (k : Nat) (hk : k < 4) (H : ∀ r, post r) : wpL_cellAt post L xs () (nI k) :=
  pk_le L k (fun _ => H _) (fun z => ⟨vp_in_nI z (by omega), H _⟩)
theorem i_vc (xs : Nat → Int32) (L : Nat) (hL : L ≤ 4) : wpL_law (fun r => r = 1) L xs :=
  ch_cell hL 0 (by decide) (fun r1 => ch_cell hL 1 (by decide) (fun r2 => ch_cell hL 2 (by decide) (fun r3 => ch_cell hL 3 (by decide) (fun r4 => ⟨27, 432, by decide, by decide, ch_lawOf r1 r2 r3 r4 (fun _ => rfl)⟩))))
end

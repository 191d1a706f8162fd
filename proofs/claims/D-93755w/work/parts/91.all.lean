/-! not, one, and all of the descent (mine) -/
theorem run_stuck {t : tK} {ts : List tK} {X : xR × List Nat} (hE : dE 0 t X) (h1 : ¬ (mc_sg t 59 = true ∧ (mc_st 1 X.2 X.1).2 = [])) (h2 : ¬ (mc_sg t 41 = true ∧ (mc_st 1 X.2 X.1).2.head? = some 20)) : mc_run (t :: ts) X.1 X.2 false false = (0, [], t :: ts) := by
  rw [mc_run]
  by_cases c1 : mc_sg t 59 = true ∨ t.2.2.1 = 0 ∨ t.2.2.1 = 5
  · rw [if_pos c1, if_neg (fun q => h1 ⟨q.2, q.1⟩)]
  rw [if_neg c1]
  by_cases c2 : mc_o t = 0
  · rw [if_pos c2, if_neg h2]
  rw [if_neg c2]
  obtain ⟨e1, e2, e3, e4, e5⟩ := hE
  have h56 : mc_o t = 5 ∨ mc_o t = 6 := by
    unfold mc_o at c2 ⊢
    rw [if_neg (e1 (by omega)), if_neg (e2 (by omega)).1, if_neg (e2 (by omega)).2, if_neg (e4 (by omega)), if_neg (e5 (by omega))] at c2 ⊢
    by_cases d1 : mc_sg t 60 = true
    · rw [if_pos d1]; exact Or.inl rfl
    · rw [if_neg d1] at c2 ⊢
      by_cases d2 : mc_sg t 61 = true
      · rw [if_pos d2]; exact Or.inr rfl
      · rw [if_neg d2] at c2; exact absurd rfl c2
  have h6 : mc_sg t 60 = true ∨ mc_sg t 61 = true := by
    by_cases d1 : mc_sg t 60 = true
    · exact Or.inl d1
    · by_cases d2 : mc_sg t 61 = true
      · exact Or.inr d2
      · exfalso
        apply c2
        unfold mc_o
        rw [if_neg (e1 (by omega)), if_neg (e2 (by omega)).1, if_neg (e2 (by omega)).2, if_neg d1, if_neg d2, if_neg (e4 (by omega)), if_neg (e5 (by omega))]
  rw [if_pos h56, if_pos (e3 (by omega) h6)]
theorem open0 {B : Nat → Int32} {m o : Nat} {f : xF} {g : xG} {t : tK} {ts : List tK} (hc : ct B m f g) (h : cSt B m f (t :: ts)) (h0 : ¬ t.2.2.1 = 0) (h25 : f 25 = i32 o) (ho : o ≤ 5) : (o = 5 ∧ pX0_openOne f g = some (1, f, g)) ∨ (¬ o = 5 ∧ ∃ f1, fr25 f f1 ∧ ((pX0_openOne f g = some (0, f1, g) ∧ f1 25 = i32 (o + 1) ∧ cSt B m f1 ts) ∨ ∃ t2, ts = [t2] ∧ t2.2.2.1 = 5 ∧ pX0_openOne f g = some (1, f1, g) ∧ f1 22 = i32 t2.1)) := by
  have z : ((5 : Int32) ≤ f 25) ↔ 5 ≤ o := by rw [h25]; exact i32_le (n := 5) (by omega) (by omega)
  unfold pX0_openOne pX0_openOne_0 pX0_openOne_14 pX0_need pX0_need_0
  by_cases c : o = 5
  · refine Or.inl ⟨c, ?_⟩
    rw [if_pos (z.mpr (by omega))]
    rfl
  · refine Or.inr ⟨c, ?_⟩
    rw [if_neg (fun q => by have := z.mp q; omega), if_neg (by decide)]
    obtain ⟨f1, n1, n2⟩ := next0 hc h h0
    rcases n2 with ⟨n3, n4⟩ | ⟨t2, e1, e2, e3, e4⟩
    · refine ⟨upd f1 25 (f1 25 + 1), n1.to.tr fr25.u, Or.inl ⟨?_, ?_, n4.u⟩⟩
      · rw [n3]; rfl
      · rw [upd_e, n1 25 (by decide) (by decide) (by decide) (by decide), h25, i32_succ]
    · refine ⟨f1, n1.to, Or.inr ⟨t2, e1, e2, ?_, e4⟩⟩
      rw [e3]; rfl
theorem i32_pred {n : Nat} (h : n < 2147483647) : i32 (n + 1) - 1 = i32 n := by
  rw [show (1 : Int32) = i32 1 from rfl, i32_subN (by omega) (by omega), Nat.add_sub_cancel]
theorem dnot {B : Nat → Int32} {m n : Nat} {nt pl : xPF} (hnt : dH B m nt 2 n) (hpl : dH B m pl 3 n) : dH B m (q_not nt pl) 2 (n + 1) := by
  intro t ts out S mn f g hc hst h25 ho hS hm1 hm2 hlen hn
  have hS4 : mc_top S < 4 := hS
  have hmn : mn = true := hm1 (by omega)
  subst hmn
  unfold dC q_not
  rw [ky0 hst.2.1 hst.1]
  simp only [Option.bind_some, bz_0]
  cases hk5 : mc_ky t 5
  · -- no 'not'
    simp only [if_true]
    obtain ⟨z, z1, z2, z3, z4⟩ := hpl t ts out S true f g hc hst h25 ho (show mc_top S < 5 by omega) (fun q => by omega) (fun _ => Or.inr (by rw [hk5]; decide)) hlen (by omega)
    rw [z1]
    simp only [Option.bind_some]
    rcases z4 with ⟨z0, t3, ts3, X2, b1, b2, b3, b4, b5, b6, b7, b8⟩ | ⟨z0, b1, b2⟩
    case inr =>
      rw [if_neg (by rw [z0]; decide)]
      exact ⟨(1, z.2.1, [], z.2.2.2), rfl, z2, z3, Or.inr ⟨rfl, b1, b2⟩⟩
    rw [if_pos z0]
    have b7' : mc_st 5 X2.2 X2.1 = (out ++ z.2.2.1, S) := by
      rw [show (5 : Nat) = lv 3 from rfl, b7, mc_id (show mc_top S < lv 3 by show mc_top S < 5; omega)]
    have hb3 : mc_st 3 X2.2 X2.1 = mc_st 3 S (out ++ z.2.2.1) := by
      rw [← mc_idem (show 3 ≤ 5 by omega) X2.2 X2.1, b7']
    have hq : q_or2 60 61 z.2.1.1 z.2.1.2 = some (bz (mc_sg t3 60 || mc_sg t3 61), z.2.1.1 24) := by
      unfold q_or2
      rw [sg0 b1.2.1 b1.1, sg0 b1.2.1 b1.1]
      simp only [Option.bind_some, bz_0]
      cases mc_sg t3 60 <;> cases mc_sg t3 61 <;> rfl
    rw [hq]
    simp only [Option.bind_some, bz_0]
    cases h6 : (mc_sg t3 60 || mc_sg t3 61)
    · simp only [if_true]
      unfold q_end
      have h60 : ¬ (mc_sg t3 60 = true ∨ mc_sg t3 61 = true) := by
        rw [← Bool.or_eq_true, h6]; decide
      refine ⟨(0, (z.2.1.1, z.2.1.2), z.2.2.1, z.2.2.2), rfl, z2, z3, Or.inl ⟨rfl, t3, ts3, X2, b1, b2, b3, b4, b5, b6, hb3, ?_⟩⟩
      exact ⟨fun _ => b8.1 (by omega), fun _ => b8.2.1 (by omega), fun _ q => absurd q h60, fun q => by omega, fun q => by omega⟩
    · simp only [Bool.true_eq_false, if_false]
      have h60 : mc_sg t3 60 = true ∨ mc_sg t3 61 = true := by
        rw [← Bool.or_eq_true]; exact h6
      have hk4 : t3.2.2.1 = 4 := h60.elim (fun q => (sg_k q).1) (fun q => (sg_k q).1)
      have ho56 : (mc_o t3 = 5 ∨ mc_o t3 = 6) ∧ opc (z.2.1.1 24) = mc_o t3 ∧ mc_str (mc_o t3) = 4 ∧ ¬ mc_sg t3 59 = true := by
        rw [(b1.1.2.2 (by omega)).1]
        unfold mc_o
        rcases h60 with q | q
        · have e := (sg_k q).2
          have n : ∀ c : Int32, ¬ c = 60 → ¬ mc_sg t3 c = true := fun c hc2 r => hc2 (by rw [← (sg_k r).2, e])
          rw [if_neg (n 42 (by decide)), if_neg (n 43 (by decide)), if_neg (n 45 (by decide)), if_pos q, e]
          exact ⟨Or.inl rfl, by decide, by decide, n 59 (by decide)⟩
        · have e := (sg_k q).2
          have n : ∀ c : Int32, ¬ c = 61 → ¬ mc_sg t3 c = true := fun c hc2 r => hc2 (by rw [← (sg_k r).2, e])
          rw [if_neg (n 42 (by decide)), if_neg (n 43 (by decide)), if_neg (n 45 (by decide)), if_neg (n 60 (by decide)), if_pos q, e]
          exact ⟨Or.inr rfl, by decide, by decide, n 59 (by decide)⟩
      obtain ⟨o1, o2, o3, o4⟩ := ho56
      have hrun : mc_run (t3 :: ts3) X2.1 X2.2 false false = mc_run ts3 (out ++ z.2.2.1) (mc_o t3 :: S) true false := by
        rw [mc_run, if_neg (fun q => q.elim o4 (fun q => by omega)), if_neg (by omega), if_pos o1, b7', if_neg (by show ¬ mc_top S = 4; omega)]
      unfold q_two
      rw [z2]
      obtain ⟨f1, n1, n2⟩ := next0 (ct.fr5 hc z3) b1 (by omega)
      have hop : mc_op (mc_o t3 :: S) = mc_op S := by
        show (if _ then 1 else 0) + _ = _
        rw [if_neg (by omega), Nat.zero_add]
      rcases n2 with ⟨n3, n4⟩ | ⟨t2, e1, e2, e3, e4⟩
      · rw [n3]
        simp only [Option.bind_some, if_true]
        cases ts3 with
        | nil => exact n4.elim
        | cons t4 ts4 =>
          have hl4 : ts4.length + 1 < ts.length := b4
          have h25' : f1 25 = i32 (mc_op (mc_o t3 :: S)) := by rw [hop, n1 25 (by decide) (by decide) (by decide) (by decide), b2]; exact h25
          obtain ⟨y, y1, y2, y3, y4⟩ := hpl t4 ts4 (out ++ z.2.2.1) (mc_o t3 :: S) false f1 g (ct.fr (ct.fr5 hc z3) n1) n4 h25' (by omega) (by show mc_str (mc_o t3) < 5; omega) (fun q => by omega) (fun _ => Or.inl rfl) (by omega) (by rw [hop]; omega)
          rw [y1]
          simp only [Option.bind_some]
          rcases y4 with ⟨y0, t5, ts5, X3, c1, c2, c3, c4, c5, c6, c7, c8⟩ | ⟨y0, c1, c2⟩
          · rw [if_pos y0]
            unfold q_end
            have c7' : mc_st 5 X3.2 X3.1 = (out ++ z.2.2.1 ++ y.2.2.1, mc_o t3 :: S) := by
              rw [show (5 : Nat) = lv 3 from rfl, c7, mc_id (show mc_top (mc_o t3 :: S) < lv 3 by show mc_str (mc_o t3) < 5; omega)]
            refine ⟨(0, (y.2.1.1, y.2.1.2), z.2.2.1 ++ y.2.2.1 ++ [(opc (z.2.1.1 24), 0)], z.2.2.2 + 1 + y.2.2.2), rfl, y2, (z3.tr n1.to).tr y3, Or.inl ⟨rfl, t5, ts5, X3, c1, ?_, ?_, ?_, ?_, ?_, ?_, ?_⟩⟩
            · show y.2.1.1 25 = f 25
              rw [c2, n1 25 (by decide) (by decide) (by decide) (by decide), b2]
            · show z.2.2.2 + 1 + y.2.2.2 + ts5.length ≤ ts.length
              have b3 : z.2.2.2 + (ts4.length + 1) ≤ ts.length := b3
              omega
            · omega
            · show (z.2.2.1 ++ y.2.2.1 ++ [(opc (z.2.1.1 24), 0)]).length = z.2.2.2 + 1 + y.2.2.2
              rw [List.length_append, List.length_append, b5, c5]
              show z.2.2.2 + y.2.2.2 + 1 = _; omega
            · rw [b6, hrun, c6]
            · show mc_st 3 X3.2 X3.1 = mc_st 3 S (out ++ (z.2.2.1 ++ y.2.2.1 ++ [(opc (z.2.1.1 24), 0)]))
              rw [← mc_idem (show 3 ≤ 5 by omega) X3.2 X3.1, c7', mc_pop (by omega), o2, List.append_assoc, List.append_assoc, List.append_assoc]
            · refine ⟨fun _ => c8.1 (by omega), fun _ => c8.2.1 (by omega), fun _ _ => ?_, fun q => by omega, fun q => by omega⟩
              rw [c7']; exact o3
          · rw [if_neg (by rw [y0]; decide)]
            refine ⟨(1, y.2.1, [], z.2.2.2 + 1 + y.2.2.2), rfl, y2, (z3.tr n1.to).tr y3, Or.inr ⟨rfl, ?_, ?_⟩⟩
            · show z.2.2.2 + 1 + y.2.2.2 ≤ ts.length + 1
              have b3 : z.2.2.2 + (ts4.length + 1) ≤ ts.length := b3
              omega
            · rw [b6, hrun]; exact c2
      · rw [e3]
        simp only [Option.bind_some]
        rw [if_neg (by decide)]
        refine ⟨(1, (f1, g), [], z.2.2.2), rfl, rfl, z3.tr n1.to, Or.inr ⟨rfl, by show z.2.2.2 ≤ _; omega, ?_⟩⟩
        rw [b6, hrun, e1, mc_bad e2]
        exact ⟨t2, [], rfl, e4⟩
  · -- 'not'
    simp only [Bool.true_eq_false, if_false]
    have hk1 := ky_k hk5
    have n : ∀ c, ¬ mc_sg t c = true := fun c q => by have := (sg_k q).1; omega
    have hrun : mc_run (t :: ts) out S true true = if mc_op S = 5 then (0, [], t :: ts) else mc_run ts out (4 :: S) true true := by
      rw [mc_run, if_neg (by omega), if_neg (by omega), if_neg (n _), if_neg (n _), if_pos ⟨hk5, rfl⟩]
    rcases open0 hc hst (by omega) h25 ho with ⟨o1, o2⟩ | ⟨o1, f1, o2, o3⟩
    · rw [o2]
      simp only [Option.bind_some]
      rw [if_neg (by decide)]
      refine ⟨(1, (f, g), [], 0), rfl, rfl, fr25.rf, Or.inr ⟨rfl, Nat.zero_le _, ?_⟩⟩
      rw [hrun, if_pos o1]
      exact ⟨t, ts, rfl, hst.1.1⟩
    · rw [if_neg o1] at hrun
      rcases o3 with ⟨q1, q2, q3⟩ | ⟨t2, e1, e2, e3, e4⟩
      · rw [q1]
        simp only [Option.bind_some, if_true]
        cases ts with
        | nil => exact q3.elim
        | cons t2 ts2 =>
          have hl2 : ts2.length + 1 ≤ 160 := hlen
          have hop : mc_op (4 :: S) = 1 + mc_op S := rfl
          obtain ⟨y, y1, y2, y3, y4⟩ := hnt t2 ts2 out (4 :: S) true f1 g (ct.fr5 hc o2) q3 (by rw [q2, hop, Nat.add_comm]) (by omega) (show mc_str 4 < 4 by decide) (fun _ => rfl) (fun q => by omega) (by omega) (by rw [hop]; omega)
          rw [y1]
          simp only [Option.bind_some]
          rcases y4 with ⟨y0, t5, ts5, X3, c1, c2, c3, c4, c5, c6, c7, c8⟩ | ⟨y0, c1, c2⟩
          · rw [if_pos y0]
            refine ⟨(0, (upd y.2.1.1 25 (y.2.1.1 25 - 1), y.2.1.2), y.2.2.1 ++ [(4, 0)], y.2.2.2 + 1), rfl, y2, (o2.tr y3).tr fr25.u, Or.inl ⟨rfl, t5, ts5, X3, c1.u, ?_, ?_, ?_, ?_, ?_, ?_, c8⟩⟩
            · show upd y.2.1.1 25 (y.2.1.1 25 - 1) 25 = f 25
              rw [upd_e, c2, q2, i32_pred (by omega), h25]
            · show y.2.2.2 + 1 + ts5.length ≤ ts2.length + 1; omega
            · show ts5.length < ts2.length + 1; omega
            · show (y.2.2.1 ++ [(4, 0)]).length = y.2.2.2 + 1
              rw [List.length_append, c5]; rfl
            · rw [hrun, c6]
            · show mc_st 3 X3.2 X3.1 = mc_st 3 S (out ++ (y.2.2.1 ++ [(4, 0)]))
              rw [show mc_st 3 X3.2 X3.1 = mc_st 3 (4 :: S) (out ++ y.2.2.1) from c7, mc_pop (by decide), List.append_assoc]
          · rw [if_neg (by rw [y0]; decide)]
            refine ⟨(1, y.2.1, [], y.2.2.2), rfl, y2, o2.tr y3, Or.inr ⟨rfl, by show y.2.2.2 ≤ ts2.length + 1 + 1; omega, ?_⟩⟩
            rw [hrun]; exact c2
      · rw [e3]
        simp only [Option.bind_some]
        rw [if_neg (by decide)]
        refine ⟨(1, (f1, g), [], 0), rfl, rfl, o2, Or.inr ⟨rfl, Nat.zero_le _, ?_⟩⟩
        rw [hrun, e1, mc_bad e2]
        exact ⟨t2, [], rfl, e4⟩
theorem dE5 {t : tK} {X : xR × List Nat} : dE 5 t X := ⟨fun q => by omega, fun q => by omega, fun q => by omega, fun q => by omega, fun q => by omega⟩
theorem done_ {B : Nat → Int32} {m n : Nat} {one eith : xPF} (hone : dH B m one 5 n) (hei : dH B m eith 0 n) : dH B m (q_one one eith) 5 (n + 1) := by
  intro t ts out S mn f g hc hst h25 ho hS hm1 hm2 hlen hn
  have hk := hst.2.1.1
  have z3 : (f 23 = 3) ↔ t.2.2.1 = 3 := by rw [hst.1.2.1]; exact i32_inj (m := 3) (by omega) (by omega)
  have z2 : (f 23 = 2) ↔ t.2.2.1 = 2 := by rw [hst.1.2.1]; exact i32_inj (m := 2) (by omega) (by omega)
  unfold dC q_one
  have val : ∀ c : Nat, t.2.2.1 = 2 ∨ t.2.2.1 = 3 → mc_run (t :: ts) out S true mn = mc_run ts (mc_st 7 S (out ++ [(c, t.2.2.2)])).1 (mc_st 7 S (out ++ [(c, t.2.2.2)])).2 false false → ∃ z : xP, ((pX0_next f g).bind (fun x => if x.1 = 0 then some (0, x.2, [(c, f 24)], 1) else some (1, x.2, [], 0))) = some z ∧ z.2.1.2 = g ∧ fr25 f z.2.1.1 ∧
    ((z.1 = 0 ∧ ∃ (t2 : tK) (ts2 : List tK) (X : xR × List Nat), cSt B m z.2.1.1 (t2 :: ts2) ∧ z.2.1.1 25 = f 25 ∧ z.2.2.2 + ts2.length ≤ ts.length ∧ ts2.length < ts.length ∧ z.2.2.1.length = z.2.2.2 ∧ mc_run (t :: ts) out S true mn = mc_run (t2 :: ts2) X.1 X.2 false false ∧ mc_st (lv 5) X.2 X.1 = mc_st (lv 5) S (out ++ z.2.2.1) ∧ dE 5 t2 X) ∨
     (z.1 = 1 ∧ z.2.2.2 ≤ ts.length + 1 ∧ mc_f (mc_run (t :: ts) out S true mn) (z.2.1.1 22))) := by
    intro c hkk hrun
    have h24 := (hst.1.2.2 (by omega)).1
    obtain ⟨f1, n1, n2⟩ := next0 hc hst (by omega)
    rcases n2 with ⟨n3, n4⟩ | ⟨t2, e1, e2, e3, e4⟩
    · rw [n3]
      simp only [Option.bind_some, if_true]
      cases ts with
      | nil => exact n4.elim
      | cons t2 ts2 =>
        refine ⟨(0, (f1, g), [(c, f 24)], 1), rfl, rfl, n1.to, Or.inl ⟨rfl, t2, ts2, mc_st 7 S (out ++ [(c, t.2.2.2)]), n4, n1 25 (by decide) (by decide) (by decide) (by decide), ?_, ?_, rfl, hrun, ?_, dE5⟩⟩
        · show 1 + ts2.length ≤ ts2.length + 1; omega
        · show ts2.length < ts2.length + 1; omega
        · show mc_st 7 _ _ = mc_st 7 S (out ++ [(c, f 24)])
          rw [mc_idem (Nat.le_refl 7), h24]
    · rw [e3]
      simp only [Option.bind_some]
      rw [if_neg (by decide)]
      refine ⟨(1, (f1, g), [], 0), rfl, rfl, n1.to, Or.inr ⟨rfl, Nat.zero_le _, ?_⟩⟩
      rw [hrun, e1, mc_bad e2]
      exact ⟨t2, [], rfl, e4⟩
  by_cases c3 : t.2.2.1 = 3
  · rw [if_pos (z3.mpr c3)]
    exact val 0 (Or.inr c3) (by rw [mc_run, if_pos c3])
  rw [if_neg (fun q => c3 (z3.mp q))]
  by_cases c2 : t.2.2.1 = 2
  · rw [if_pos (z2.mpr c2)]
    exact val 1 (Or.inl c2) (by rw [mc_run, if_neg c3, if_pos c2])
  rw [if_neg (fun q => c2 (z2.mp q)), sg0 hst.2.1 hst.1, sg0 hst.2.1 hst.1]
  simp only [Option.bind_some, bz_0]
  cases h45 : mc_sg t 45
  · simp only [if_true]
    have n45 : ¬ mc_sg t 45 = true := by rw [h45]; decide
    cases h40 : mc_sg t 40
    · -- none
      simp only [if_true]
      have n40 : ¬ mc_sg t 40 = true := by rw [h40]; decide
      refine ⟨(1, (f, g), [], 0), rfl, rfl, fr25.rf, Or.inr ⟨rfl, Nat.zero_le _, ?_⟩⟩
      rw [mc_run, if_neg c3, if_neg c2, if_neg n45, if_neg n40, if_neg (fun q => (hm2 (by omega)).elim (fun r => by rw [r] at q; exact absurd q.2 (by decide)) (fun r => r q.1))]
      exact ⟨t, ts, rfl, hst.1.1⟩
    · -- a parenthesis
      simp only [Bool.true_eq_false, if_false]
      have hk4 := sg_k h40
      have hrun : mc_run (t :: ts) out S true mn = if mc_op S = 5 then (0, [], t :: ts) else mc_run ts out (20 :: S) true true := by
        rw [mc_run, if_neg c3, if_neg c2, if_neg n45, if_pos h40]
      rcases open0 hc hst (by omega) h25 ho with ⟨o1, o2⟩ | ⟨o1, f1, o2, o3⟩
      · rw [o2]
        simp only [Option.bind_some]
        rw [if_neg (by decide)]
        refine ⟨(1, (f, g), [], 0), rfl, rfl, fr25.rf, Or.inr ⟨rfl, Nat.zero_le _, ?_⟩⟩
        rw [hrun, if_pos o1]
        exact ⟨t, ts, rfl, hst.1.1⟩
      · rw [if_neg o1] at hrun
        rcases o3 with ⟨q1, q2, q3⟩ | ⟨t2, e1, e2, e3, e4⟩
        · rw [q1]
          simp only [Option.bind_some, if_true]
          cases ts with
          | nil => exact q3.elim
          | cons t2 ts2 =>
            have hl2 : ts2.length + 1 ≤ 160 := hlen
            have hop : mc_op (20 :: S) = 1 + mc_op S := rfl
            obtain ⟨y, y1, y2, y3, y4⟩ := hei t2 ts2 out (20 :: S) true f1 g (ct.fr5 hc o2) q3 (by rw [q2, hop, Nat.add_comm]) (by omega) (show mc_str 20 < 1 by decide) (fun _ => rfl) (fun q => by omega) (by omega) (by rw [hop]; omega)
            rw [y1]
            simp only [Option.bind_some]
            rcases y4 with ⟨y0, t5, ts5, X3, c1, c2, c3, c4, c5, c6, c7, c8⟩ | ⟨y0, c1, c2⟩
            · rw [if_pos y0, sg0 c1.2.1 c1.1]
              simp only [Option.bind_some, bz_0]
              have c7' : mc_st 1 X3.2 X3.1 = (out ++ y.2.2.1, 20 :: S) := by
                rw [show mc_st 1 X3.2 X3.1 = mc_st 1 (20 :: S) (out ++ y.2.2.1) from c7, mc_id (show mc_str 20 < 1 by decide)]
              cases h41 : mc_sg t5 41
              · simp only [if_true]
                refine ⟨(1, y.2.1, [], y.2.2.2), rfl, y2, o2.tr y3, Or.inr ⟨rfl, by show y.2.2.2 ≤ ts2.length + 1 + 1; omega, ?_⟩⟩
                rw [hrun, c6, run_stuck c8 (fun q => by rw [c7'] at q; cases q.2) (fun q => by rw [h41] at q; cases q.1)]
                exact ⟨t5, ts5, rfl, c1.1.1⟩
              · simp only [Bool.true_eq_false, if_false]
                have hk5 := sg_k h41
                have n5 : ∀ c : Int32, ¬ c = 41 → ¬ mc_sg t5 c = true := fun c hc2 r => hc2 (by rw [← (sg_k r).2, hk5.2])
                have k5 : ∀ c, ¬ mc_ky t5 c = true := fun c q => by have := (ky_k q).1; omega
                have ho5 : mc_o t5 = 0 := by
                  unfold mc_o
                  rw [if_neg (n5 _ (by decide)), if_neg (n5 _ (by decide)), if_neg (n5 _ (by decide)), if_neg (n5 _ (by decide)), if_neg (n5 _ (by decide)), if_neg (k5 _), if_neg (k5 _)]
                have hrun2 : mc_run (t5 :: ts5) X3.1 X3.2 false false = mc_run ts5 (mc_st 7 S (out ++ y.2.2.1)).1 (mc_st 7 S (out ++ y.2.2.1)).2 false false := by
                  rw [mc_run, if_neg (fun q => q.elim (n5 _ (by decide)) (fun q => by omega)), if_pos ho5, c7', if_pos ⟨h41, rfl⟩]
                  rfl
                rw [y2]
                obtain ⟨f2, n1, n2⟩ := next0 (f := upd y.2.1.1 25 (y.2.1.1 25 - 1)) (g := g) (ct.fr5 (ct.fr5 (ct.fr5 hc o2) y3) fr25.u) c1.u (by omega)
                have hf25 : upd y.2.1.1 25 (y.2.1.1 25 - 1) 25 = f 25 := by rw [upd_e, c2, q2, i32_pred (by omega), h25]
                rcases n2 with ⟨n3, n4⟩ | ⟨t6, e1, e2, e3, e4⟩
                · rw [n3]
                  simp only [Option.bind_some, if_true]
                  cases ts5 with
                  | nil => exact n4.elim
                  | cons t6 ts6 =>
                    have c3 : y.2.2.2 + (ts6.length + 1) ≤ ts2.length := c3
                    refine ⟨(0, (f2, g), y.2.2.1, y.2.2.2), rfl, rfl, ((o2.tr y3).tr fr25.u).tr n1.to, Or.inl ⟨rfl, t6, ts6, mc_st 7 S (out ++ y.2.2.1), n4, ?_, ?_, ?_, c5, by rw [hrun, c6, hrun2], ?_, dE5⟩⟩
                    · show f2 25 = f 25
                      rw [n1 25 (by decide) (by decide) (by decide) (by decide), hf25]
                    · show y.2.2.2 + ts6.length ≤ ts2.length + 1; omega
                    · show ts6.length < ts2.length + 1; omega
                    · show mc_st 7 _ _ = mc_st 7 S (out ++ y.2.2.1)
                      rw [mc_idem (Nat.le_refl 7)]
                · rw [e3]
                  simp only [Option.bind_some]
                  rw [if_neg (by decide)]
                  refine ⟨(1, (f2, g), [], y.2.2.2), rfl, rfl, ((o2.tr y3).tr fr25.u).tr n1.to, Or.inr ⟨rfl, by show y.2.2.2 ≤ ts2.length + 1 + 1; omega, ?_⟩⟩
                  rw [hrun, c6, hrun2, e1, mc_bad e2]
                  exact ⟨t6, [], rfl, e4⟩
            · rw [if_neg (by rw [y0]; decide)]
              refine ⟨(1, y.2.1, [], y.2.2.2), rfl, y2, o2.tr y3, Or.inr ⟨rfl, by show y.2.2.2 ≤ ts2.length + 1 + 1; omega, ?_⟩⟩
              rw [hrun]; exact c2
        · rw [e3]
          simp only [Option.bind_some]
          rw [if_neg (by decide)]
          refine ⟨(1, (f1, g), [], 0), rfl, rfl, o2, Or.inr ⟨rfl, Nat.zero_le _, ?_⟩⟩
          rw [hrun, e1, mc_bad e2]
          exact ⟨t2, [], rfl, e4⟩
  · -- turned round
    simp only [Bool.true_eq_false, if_false]
    have hk4 := sg_k h45
    have hrun : mc_run (t :: ts) out S true mn = if mc_op S = 5 then (0, [], t :: ts) else mc_run ts out (10 :: S) true false := by
      rw [mc_run, if_neg c3, if_neg c2, if_pos h45]
    rcases open0 hc hst (by omega) h25 ho with ⟨o1, o2⟩ | ⟨o1, f1, o2, o3⟩
    · rw [o2]
      simp only [Option.bind_some]
      rw [if_neg (by decide)]
      refine ⟨(1, (f, g), [], 0), rfl, rfl, fr25.rf, Or.inr ⟨rfl, Nat.zero_le _, ?_⟩⟩
      rw [hrun, if_pos o1]
      exact ⟨t, ts, rfl, hst.1.1⟩
    · rw [if_neg o1] at hrun
      rcases o3 with ⟨q1, q2, q3⟩ | ⟨t2, e1, e2, e3, e4⟩
      · rw [q1]
        simp only [Option.bind_some, if_true]
        cases ts with
        | nil => exact q3.elim
        | cons t2 ts2 =>
          have hl2 : ts2.length + 1 ≤ 160 := hlen
          have hop : mc_op (10 :: S) = 1 + mc_op S := rfl
          obtain ⟨y, y1, y2, y3, y4⟩ := hone t2 ts2 out (10 :: S) false f1 g (ct.fr5 hc o2) q3 (by rw [q2, hop, Nat.add_comm]) (by omega) (show mc_str 10 < 8 by decide) (fun q => by omega) (fun _ => Or.inl rfl) (by omega) (by rw [hop]; omega)
          rw [y1]
          simp only [Option.bind_some]
          rcases y4 with ⟨y0, t5, ts5, X3, c1, c2, c3, c4, c5, c6, c7, c8⟩ | ⟨y0, c1, c2⟩
          · rw [if_pos y0]
            refine ⟨(0, (upd y.2.1.1 25 (y.2.1.1 25 - 1), y.2.1.2), y.2.2.1 ++ [(10, 0)], y.2.2.2 + 1), rfl, y2, (o2.tr y3).tr fr25.u, Or.inl ⟨rfl, t5, ts5, X3, c1.u, ?_, ?_, ?_, ?_, ?_, ?_, dE5⟩⟩
            · show upd y.2.1.1 25 (y.2.1.1 25 - 1) 25 = f 25
              rw [upd_e, c2, q2, i32_pred (by omega), h25]
            · show y.2.2.2 + 1 + ts5.length ≤ ts2.length + 1; omega
            · show ts5.length < ts2.length + 1; omega
            · show (y.2.2.1 ++ [(10, 0)]).length = y.2.2.2 + 1
              rw [List.length_append, c5]; rfl
            · rw [hrun, c6]
            · show mc_st 7 X3.2 X3.1 = mc_st 7 S (out ++ (y.2.2.1 ++ [(10, 0)]))
              rw [show mc_st 7 X3.2 X3.1 = mc_st 7 (10 :: S) (out ++ y.2.2.1) from c7, mc_pop (by decide), List.append_assoc]
          · rw [if_neg (by rw [y0]; decide)]
            refine ⟨(1, y.2.1, [], y.2.2.2), rfl, y2, o2.tr y3, Or.inr ⟨rfl, by show y.2.2.2 ≤ ts2.length + 1 + 1; omega, ?_⟩⟩
            rw [hrun]; exact c2
      · rw [e3]
        simp only [Option.bind_some]
        rw [if_neg (by decide)]
        refine ⟨(1, (f1, g), [], 0), rfl, rfl, o2, Or.inr ⟨rfl, Nat.zero_le _, ?_⟩⟩
        rw [hrun, e1, mc_bad e2]
        exact ⟨t2, [], rfl, e4⟩

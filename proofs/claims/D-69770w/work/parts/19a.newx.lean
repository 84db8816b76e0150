section Nx
variable {H00 : Heap} {sa : Nat → Nat} {args : Array Value} {s : State}
theorem zx_T (htb : TBs args s) (hz : zZZ H00 s s.heap) : ∀ c ∈ Bundle.throwableAtoms, c.before args s = true := by
  have a := htb.all
  intro c hc
  simp only [Bundle.throwableAtoms, List.mem_cons, List.not_mem_nil, or_false] at hc
  rcases hc with rfl | rfl | rfl | rfl | rfl | rfl | rfl | rfl | rfl | rfl | rfl | rfl | rfl | rfl | rfl | rfl | rfl | rfl | rfl | rfl | rfl | rfl | rfl | rfl
  · exact a _ q187
  · exact a _ q337
  · exact a _ q346
  · exact a _ q353
  · exact a _ q356
  · exact a _ q358
  · exact a _ q338
  · exact a _ q339
  · exact a _ q239
  · exact a _ q240
  · exact a _ q340
  · exact a _ q345
  · exact a _ q354
  · exact a _ q372
  · exact a _ q327
  · exact a _ q373
  · exact a _ q329
  · exact a _ q374
  · exact a _ q331
  · exact a _ q341
  · exact hz.2.2.1.elim (fun _ h => h.word)
  · exact a _ q343
  · exact hz.2.2.2.elim (fun _ h => h.word)
  · exact a _ q333
theorem zx_c6 (htb : TBs args s) : ∀ c ∈ Bundle.chain0Atoms "AlgolMill$Wrong" ["java/lang/RuntimeException", "java/lang/Exception"], c.before args s = true := by
  have a := htb.all
  intro c hc
  simp only [Bundle.chain0Atoms, Bundle.passAtoms, List.mem_append, List.mem_cons, List.not_mem_nil, or_false] at hc
  rcases hc with (rfl | rfl | rfl | rfl | rfl) | (rfl | rfl | rfl | rfl | rfl) | rfl | rfl | rfl | rfl | rfl
  · exact a _ q360
  · exact a _ q361
  · exact a _ q362
  · exact a _ q363
  · exact htb _ q318 rfl
  · exact a _ q363
  · exact a _ q364
  · exact a _ q365
  · exact a _ q366
  · exact htb _ q320 rfl
  · exact a _ q366
  · exact a _ q367
  · exact a _ q368
  · exact a _ q338
  · exact htb _ q322 rfl
theorem zx_l6 (htb : TBs args s) : (Cond.instantiable "AlgolMill$Wrong" 7).before args s = true ∧ (Cond.selects "AlgolMill$Wrong" Bundle.tFill0 Bundle.tFill0).before args s = true ∧ (Cond.selects "AlgolMill$Wrong" Bundle.tFill Bundle.tFill).before args s = true ∧ (Cond.lays "AlgolMill$Wrong" Bundle.tN "cause" "Ljava/lang/Throwable;").before args s = true ∧ (Cond.lays "AlgolMill$Wrong" Bundle.tN "stackTrace" "[Ljava/lang/StackTraceElement;").before args s = true ∧ (Cond.lays "AlgolMill$Wrong" Bundle.tN "suppressedExceptions" "Ljava/util/List;").before args s = true ∧ (Cond.lays "AlgolMill$Wrong" Bundle.tN "backtrace" "Ljava/lang/Object;").before args s = true := by
  have a := htb.all
  exact ⟨a _ q316, a _ q324, a _ q325, a _ q326, a _ q328, a _ q330, a _ q334⟩
theorem zx_c40 (htb : TBs args s) : ∀ c ∈ Bundle.chain0Atoms "java/lang/ArithmeticException" ["java/lang/RuntimeException", "java/lang/Exception"], c.before args s = true := by
  have a := htb.all
  intro c hc
  simp only [Bundle.chain0Atoms, Bundle.passAtoms, List.mem_append, List.mem_cons, List.not_mem_nil, or_false] at hc
  rcases hc with (rfl | rfl | rfl | rfl | rfl) | (rfl | rfl | rfl | rfl | rfl) | rfl | rfl | rfl | rfl | rfl
  · exact a _ q2388
  · exact a _ q2389
  · exact a _ q2390
  · exact a _ q363
  · exact htb _ q318 rfl
  · exact a _ q363
  · exact a _ q364
  · exact a _ q365
  · exact a _ q366
  · exact htb _ q320 rfl
  · exact a _ q366
  · exact a _ q367
  · exact a _ q368
  · exact a _ q338
  · exact htb _ q322 rfl
theorem zx_l40 (htb : TBs args s) : (Cond.instantiable "java/lang/ArithmeticException" 6).before args s = true ∧ (Cond.selects "java/lang/ArithmeticException" Bundle.tFill0 Bundle.tFill0).before args s = true ∧ (Cond.selects "java/lang/ArithmeticException" Bundle.tFill Bundle.tFill).before args s = true ∧ (Cond.lays "java/lang/ArithmeticException" Bundle.tN "cause" "Ljava/lang/Throwable;").before args s = true ∧ (Cond.lays "java/lang/ArithmeticException" Bundle.tN "stackTrace" "[Ljava/lang/StackTraceElement;").before args s = true ∧ (Cond.lays "java/lang/ArithmeticException" Bundle.tN "suppressedExceptions" "Ljava/util/List;").before args s = true ∧ (Cond.lays "java/lang/ArithmeticException" Bundle.tN "backtrace" "Ljava/lang/Object;").before args s = true := by
  have a := htb.all
  exact ⟨a _ q2379, a _ q2381, a _ q348, a _ q2382, a _ q2383, a _ q2384, a _ q2386⟩
theorem zx_c41 (htb : TBs args s) : ∀ c ∈ Bundle.chain0Atoms "java/lang/IndexOutOfBoundsException" ["java/lang/RuntimeException", "java/lang/Exception"], c.before args s = true := by
  have a := htb.all
  intro c hc
  simp only [Bundle.chain0Atoms, Bundle.passAtoms, List.mem_append, List.mem_cons, List.not_mem_nil, or_false] at hc
  rcases hc with (rfl | rfl | rfl | rfl | rfl) | (rfl | rfl | rfl | rfl | rfl) | rfl | rfl | rfl | rfl | rfl
  · exact a _ q626
  · exact a _ q627
  · exact a _ q628
  · exact a _ q363
  · exact htb _ q318 rfl
  · exact a _ q363
  · exact a _ q364
  · exact a _ q365
  · exact a _ q366
  · exact htb _ q320 rfl
  · exact a _ q366
  · exact a _ q367
  · exact a _ q368
  · exact a _ q338
  · exact htb _ q322 rfl
theorem zx_l41 (htb : TBs args s) : (Cond.instantiable "java/lang/IndexOutOfBoundsException" 6).before args s = true ∧ (Cond.selects "java/lang/IndexOutOfBoundsException" Bundle.tFill0 Bundle.tFill0).before args s = true ∧ (Cond.selects "java/lang/IndexOutOfBoundsException" Bundle.tFill Bundle.tFill).before args s = true ∧ (Cond.lays "java/lang/IndexOutOfBoundsException" Bundle.tN "cause" "Ljava/lang/Throwable;").before args s = true ∧ (Cond.lays "java/lang/IndexOutOfBoundsException" Bundle.tN "stackTrace" "[Ljava/lang/StackTraceElement;").before args s = true ∧ (Cond.lays "java/lang/IndexOutOfBoundsException" Bundle.tN "suppressedExceptions" "Ljava/util/List;").before args s = true ∧ (Cond.lays "java/lang/IndexOutOfBoundsException" Bundle.tN "backtrace" "Ljava/lang/Object;").before args s = true := by
  have a := htb.all
  exact ⟨a _ q617, a _ q619, a _ q352, a _ q620, a _ q621, a _ q622, a _ q624⟩
theorem zx_c42 (htb : TBs args s) : ∀ c ∈ Bundle.chain0Atoms "java/lang/IllegalArgumentException" ["java/lang/RuntimeException", "java/lang/Exception"], c.before args s = true := by
  have a := htb.all
  intro c hc
  simp only [Bundle.chain0Atoms, Bundle.passAtoms, List.mem_append, List.mem_cons, List.not_mem_nil, or_false] at hc
  rcases hc with (rfl | rfl | rfl | rfl | rfl) | (rfl | rfl | rfl | rfl | rfl) | rfl | rfl | rfl | rfl | rfl
  · exact a _ q659
  · exact a _ q660
  · exact a _ q661
  · exact a _ q363
  · exact htb _ q318 rfl
  · exact a _ q363
  · exact a _ q364
  · exact a _ q365
  · exact a _ q366
  · exact htb _ q320 rfl
  · exact a _ q366
  · exact a _ q367
  · exact a _ q368
  · exact a _ q338
  · exact htb _ q322 rfl
theorem zx_l42 (htb : TBs args s) : (Cond.instantiable "java/lang/IllegalArgumentException" 6).before args s = true ∧ (Cond.selects "java/lang/IllegalArgumentException" Bundle.tFill0 Bundle.tFill0).before args s = true ∧ (Cond.selects "java/lang/IllegalArgumentException" Bundle.tFill Bundle.tFill).before args s = true ∧ (Cond.lays "java/lang/IllegalArgumentException" Bundle.tN "cause" "Ljava/lang/Throwable;").before args s = true ∧ (Cond.lays "java/lang/IllegalArgumentException" Bundle.tN "stackTrace" "[Ljava/lang/StackTraceElement;").before args s = true ∧ (Cond.lays "java/lang/IllegalArgumentException" Bundle.tN "suppressedExceptions" "Ljava/util/List;").before args s = true ∧ (Cond.lays "java/lang/IllegalArgumentException" Bundle.tN "backtrace" "Ljava/lang/Object;").before args s = true := by
  have a := htb.all
  exact ⟨a _ q650, a _ q652, a _ q350, a _ q653, a _ q654, a _ q655, a _ q657⟩
theorem zx_c43 (htb : TBs args s) : ∀ c ∈ Bundle.chain0Atoms "java/lang/IllegalStateException" ["java/lang/RuntimeException", "java/lang/Exception"], c.before args s = true := by
  have a := htb.all
  intro c hc
  simp only [Bundle.chain0Atoms, Bundle.passAtoms, List.mem_append, List.mem_cons, List.not_mem_nil, or_false] at hc
  rcases hc with (rfl | rfl | rfl | rfl | rfl) | (rfl | rfl | rfl | rfl | rfl) | rfl | rfl | rfl | rfl | rfl
  · exact a _ q1808
  · exact a _ q1809
  · exact a _ q1810
  · exact a _ q363
  · exact htb _ q318 rfl
  · exact a _ q363
  · exact a _ q364
  · exact a _ q365
  · exact a _ q366
  · exact htb _ q320 rfl
  · exact a _ q366
  · exact a _ q367
  · exact a _ q368
  · exact a _ q338
  · exact htb _ q322 rfl
theorem zx_l43 (htb : TBs args s) : (Cond.instantiable "java/lang/IllegalStateException" 6).before args s = true ∧ (Cond.selects "java/lang/IllegalStateException" Bundle.tFill0 Bundle.tFill0).before args s = true ∧ (Cond.selects "java/lang/IllegalStateException" Bundle.tFill Bundle.tFill).before args s = true ∧ (Cond.lays "java/lang/IllegalStateException" Bundle.tN "cause" "Ljava/lang/Throwable;").before args s = true ∧ (Cond.lays "java/lang/IllegalStateException" Bundle.tN "stackTrace" "[Ljava/lang/StackTraceElement;").before args s = true ∧ (Cond.lays "java/lang/IllegalStateException" Bundle.tN "suppressedExceptions" "Ljava/util/List;").before args s = true ∧ (Cond.lays "java/lang/IllegalStateException" Bundle.tN "backtrace" "Ljava/lang/Object;").before args s = true := by
  have a := htb.all
  exact ⟨a _ q1799, a _ q1801, a _ q351, a _ q1802, a _ q1803, a _ q1804, a _ q1806⟩
end Nx
